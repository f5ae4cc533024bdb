/-! CONTRACTS of the model: readLane, readRest -/
section C7G
variable {d : Nat} {μ μ0 : tm_M} {W : Int → Int → Prop} {tx : Int → Int} {n : Int} {t : TK} {s : TN}
theorem okP_w {m m' : tm_M} (h : okP tx n m t) (h69 : ∀ k, tm_v m' 69 k = tm_v m 69 k) (h65 : ∀ j, (j = 9 ∨ j = 12 ∨ j = 14 ∨ j = 15 ∨ j = 16 ∨ j = 17 ∨ j = 18 ∨ j = 19) → tm_v m' 65 j = tm_v m 65 j) : okP tx n m' t := by
  obtain ⟨⟨⟨x1, x2⟩, x3, x4⟩, x5, x6, x7, x8⟩ := h
  refine ⟨⟨⟨fun k => by rw [h69]; exact x1 k, by rw [h65 _ (by omega)]; exact x2⟩, by rw [h65 _ (by omega)]; exact x3, ?_⟩, by rw [h65 _ (by omega)]; exact x5, ?_, x7, x8⟩
  · rw [← x4]; funext k; unfold y_tx; rw [h69]
  · unfold hasT at *
    rw [h65 14 (by omega), h65 15 (by omega), h65 16 (by omega), h65 17 (by omega), h65 18 (by omega), h65 19 (by omega)]
    exact x6
theorem inW_told : inW wX6_told := inW_of rfl
theorem tWs_lane {a j : Int} (h : wX6_must a j) : wX6_readLane a j := tWs_sub rfl a j h
theorem pX6_readLane (hd : 5 ≤ d) (hs : tS μ) (h : okP tx n μ t) (hi : inT μ s) (hw : wfT s) : cV wX6_readLane mX6_readLane d [(2, 65)] μ (exS tx n (p_ln tx n s t)) := by
  have hnp := hw.1.1
  have hnl := hw.1.2
  have b219 : ∀ v1 v2 m e, tFr wX6_readLane μ m → bdP m e → p_ln tx n s t = .error e → hV wX6_readLane μ mX6_readLane d (exS tx n (p_ln tx n s t)) 219 [(0, 2, 65), (1, 0, v1), (2, 0, v2)] [] m := by
    intro v1 v2 m e hm hb he
    have hpos : 0 < tm_v m 65 12 := by rw [hb.1]; exact hb.2.1
    refine uX6_readLane_219 (by omega) hm ⟨fun _ => tC.V (pX6_mustB (by omega) hm.S hpos) (fun m' fm' em => ?_), fun _ => tC.V (pX6_mustB (by omega) hm.S hpos) (fun m' fm' em => ?_)⟩
    all_goals
      subst em
      exact ⟨fun c => by omega, fun _ => by rw [he]; exact hb⟩
  have b208 : ∀ v1 v2 m e, tFr wX6_readLane μ m → bdP m e → p_ln tx n s t = .error e → hV wX6_readLane μ mX6_readLane d (exS tx n (p_ln tx n s t)) 208 [(0, 2, 65), (1, 0, v1), (2, 0, v2)] [] m := by
    intro v1 v2 m e hm hb he
    exact uX6_readLane_208 (by omega) hm ⟨fun _ => b219 v1 v2 m e hm hb he, fun c => by have := hb.1; have := hb.2.1; omega⟩
  have b137 : ∀ v1 v2 v3 m e, tFr wX6_readLane μ m → bdP m e → p_ln tx n s t = .error e → hV wX6_readLane μ mX6_readLane d (exS tx n (p_ln tx n s t)) 137 [(0, 2, 65), (1, 0, v1), (2, 0, v2), (3, 0, v3)] [] m := by
    intro v1 v2 v3 m e hm hb he
    exact uX6_readLane_137 hm ⟨fun _ => b208 v1 v2 m e hm hb he, fun _ => ⟨fun _ => b208 v1 v2 m e hm hb he, fun c => by have := hb.1; have := hb.2.1; omega⟩⟩
  have b135 : ∀ v1 v2 m e, tFr wX6_readLane μ m → bdP m e → p_ln tx n s t = .error e → hV wX6_readLane μ mX6_readLane d (exS tx n (p_ln tx n s t)) 135 [(0, 2, 65), (1, 0, v1), (2, 0, v2)] [] m := by
    intro v1 v2 m e hm hb he
    exact uX6_readLane_135 hm (b137 v1 v2 0 m e hm hb he)
  have b108 : ∀ v1 v2 m e, tFr wX6_readLane μ m → bdP m e → p_ln tx n s t = .error e → hV wX6_readLane μ mX6_readLane d (exS tx n (p_ln tx n s t)) 108 [(0, 2, 65), (1, 0, v1), (2, 0, v2)] [] m := by
    intro v1 v2 m e hm hb he
    exact uX6_readLane_108 (by omega) hm ⟨fun _ => b135 v1 v2 m e hm hb he, fun c => by have := hb.1; have := hb.2.1; omega⟩
  have b74 : ∀ v1 m e, tFr wX6_readLane μ m → bdP m e → p_ln tx n s t = .error e → hV wX6_readLane μ mX6_readLane d (exS tx n (p_ln tx n s t)) 74 [(0, 2, 65), (1, 0, v1)] [] m := by
    intro v1 m e hm hb he
    have hpos : 0 < tm_v m 65 12 := by rw [hb.1]; exact hb.2.1
    refine uX6_readLane_74 (by omega) hm (tC.V (pX6_mustB (by omega) hm.S hpos) (fun m' fm' em => ?_))
    subst em
    refine tC.I (pX6_toldB (by omega) hm.S hpos) (fun r m2 f2 em => ?_)
    subst em
    exact ⟨fun _ => b108 v1 r m2 e hm hb he, fun c => by omega⟩
  have b63 : ∀ v1 m e, tFr wX6_readLane μ m → bdP m e → p_ln tx n s t = .error e → hV wX6_readLane μ mX6_readLane d (exS tx n (p_ln tx n s t)) 63 [(0, 2, 65), (1, 0, v1)] [] m := by
    intro v1 m e hm hb he
    exact uX6_readLane_63 (by omega) hm ⟨fun _ => b74 v1 m e hm hb he, fun c => by have := hb.1; have := hb.2.1; omega⟩
  -- the lane is told; its end
  have last : ∀ (a b : Int) (t4 : TK) (m : tm_M), (0 ≤ a ∧ a < n_p s) → (0 ≤ b ∧ b < n_p s) → a ≠ b → n_d s a ≠ 4 → n_d s b ≠ 4 → n_l s ≠ 12 → tFr wX6_readLane μ m → okP tx n m t4 → inT m s → p_ln tx n s t = p_end tx n (n_lay s a b) t4 → hV wX6_readLane μ mX6_readLane d (exS tx n (p_ln tx n s t)) 219 [(0, 2, 65), (1, 0, a), (2, 0, b)] [] m := by
    intro a b t4 m ha hb hab da db hl12 hm hok hin hx
    have hT := hok.2.2.1
    refine uX6_readLane_219 (by omega) hm ?_
    rw [hT.1]
    refine ⟨fun c3 => tC.V (pX6_must (by omega) hm.S hok) (fun m1 f1 ho => ?_), fun c3 => tC.V (pX6_must (by omega) hm.S hok) (fun m1 f1 ho => ?_)⟩
    · rw [if_pos rfl] at ho
      have hbd : bdP m1 (wrg t4) := ho.1
      refine ⟨fun c => by have := hbd.1; have := hbd.2.1; omega, fun _ => ?_⟩
      rw [hx]; unfold p_end; rw [if_pos c3]; exact hbd
    · rw [if_neg (by decide)] at ho
      have hok1 : okP tx n m1 (tok tx n (ken t4)) := ho.1
      have F1 := hm.tr f1 (tWs_sub rfl)
      have in1 := inT_F f1 inW_must hin
      have wa := hw.2.1 a ha.1 ha.2
      have wb := hw.2.1 b hb.1 hb.2
      have ia := in1.2.1 a ha.1 ha.2
      have ib := in1.2.1 b hb.1 hb.2
      have e23 : tm_v m1 65 23 = n_l s := in1.1.2
      refine ⟨fun _ => ?_, fun c => by have := hok1.2.1; omega⟩
      rw [e23]
      refine ⟨by omega, fun m2 e2 => ?_⟩
      have a23 : tm_v m2 65 23 = n_l s := by rw [e2, tm_vw, if_neg (by omega)]; exact e23
      rw [a23]
      refine ⟨by omega, fun m3 e3 => ?_⟩
      have b23 : tm_v m3 65 23 = n_l s := by rw [e3, tm_vw, if_neg (by omega)]; exact a23
      have b73 : ∀ j, tm_v m3 73 j = tm_v m1 73 j := fun j => by rw [e3, e2]; simp [tm_vw]
      rw [b73, ia.2.1, b23, w32_id (x := 4 * a) (by omega) (by omega), w32_id (x := 4 * a + n_d s a) (by omega) (by omega)]
      refine ⟨by omega, by omega, fun m4 e4 => ?_⟩
      have c73 : ∀ j, tm_v m4 73 j = tm_v m1 73 j := fun j => by rw [e4, tm_vw, if_neg (by omega)]; exact b73 j
      have c23 : tm_v m4 65 23 = n_l s := by rw [e4, tm_vw, if_neg (by omega)]; exact b23
      rw [c73, ib.2.1, c23, w32_id (x := 4 * b) (by omega) (by omega), w32_id (x := 4 * b + n_d s b) (by omega) (by omega)]
      refine ⟨by omega, by omega, fun m5 e5 m6 e6 m7 e7 m8 e8 => ?_⟩
      have d73 : ∀ j, tm_v m5 73 j = tm_v m1 73 j := fun j => by rw [e5, tm_vw, if_neg (by omega)]; exact c73 j
      rw [d73, ia.2.1, w32_id (x := n_d s a + 1) (by omega) (by omega)] at e6
      have g73 : tm_v m6 73 b = n_d s b := by rw [e6, tm_vw, if_neg (by omega), d73]; exact ib.2.1
      rw [g73, w32_id (x := n_d s b + 1) (by omega) (by omega)] at e7
      have g23 : tm_v m7 65 23 = n_l s := by rw [e7, tm_vw, if_neg (by omega), e6, tm_vw, if_neg (by omega), e5, tm_vw, if_neg (by omega)]; exact c23
      rw [g23, w32_id (x := n_l s + 1) (by omega) (by omega)] at e8
      have v65 : ∀ j, j ≠ 23 → tm_v m8 65 j = tm_v m1 65 j := fun j hj => by rw [e8, e7, e6, e5, e4, e3, e2]; simp [tm_vw, hj]
      have vo : ∀ x j, x ≠ 65 → x ≠ 73 → x ≠ 75 → x ≠ 78 → x ≠ 79 → tm_v m8 x j = tm_v m1 x j := fun x j h1 h2 h3 h4 h5 => by rw [e8, e7, e6, e5, e4, e3, e2]; simp [tm_vw, h1, h2, h3, h4, h5]
      have v23 : tm_v m8 65 23 = n_l s + 1 := by rw [e8]; simp [tm_vw]
      have v78 : ∀ j, tm_v m8 78 j = if j = n_l s then a else tm_v m1 78 j := fun j => by rw [e8, e7, e6, e5, e4, e3, e2]; simp [tm_vw]
      have v79 : ∀ j, tm_v m8 79 j = if j = n_l s then b else tm_v m1 79 j := fun j => by rw [e8, e7, e6, e5, e4, e3, e2]; simp [tm_vw]
      have v75 : ∀ j, tm_v m8 75 j = if j = 4 * b + n_d s b then n_l s else if j = 4 * a + n_d s a then n_l s else tm_v m1 75 j := fun j => by rw [e8, e7, e6, e5, e4, e3, e2]; simp [tm_vw]
      have v73 : ∀ j, tm_v m8 73 j = if j = b then n_d s b + 1 else if j = a then n_d s a + 1 else tm_v m1 73 j := fun j => by rw [e8, e7, e6, e5, e4, e3, e2]; simp [tm_vw]
      rw [hx]
      unfold p_end
      rw [if_neg (fun q => q c3)]
      refine ⟨okP_w hok1 (fun k => vo _ _ (by decide) (by decide) (by decide) (by decide) (by decide)) (fun j hj => v65 j (by omega)), ⟨?_, ?_⟩, fun p p0 p1 => ?_, fun l l0 l1 => ?_, ?_, ?_, ?_, ?_, ?_⟩
      · rw [v65 _ (by decide)]; exact in1.1.1
      · exact v23
      · have p1' : p < n_p s := p1
        obtain ⟨z1, z2, z3, z4⟩ := in1.2.1 p p0 p1'
        have wp := hw.2.1 p p0 p1'
        show tm_v m8 81 p = n_m s p ∧ tm_v m8 73 p = fup (fup (n_d s) a (n_d s a + 1)) b (n_d s b + 1) p ∧ (∀ j, 0 ≤ j → j < 3 → tm_v m8 71 (3 * p + j) = n_f s (3 * p + j)) ∧ ∀ k, 0 ≤ k → k < fup (fup (n_d s) a (n_d s a + 1)) b (n_d s b + 1) p → tm_v m8 75 (4 * p + k) = fup (fup (n_a s) (4 * a + n_d s a) (n_l s)) (4 * b + n_d s b) (n_l s) (4 * p + k)
        refine ⟨by rw [vo _ _ (by decide) (by decide) (by decide) (by decide) (by decide)]; exact z1, ?_, fun j j0 j1 => by rw [vo _ _ (by decide) (by decide) (by decide) (by decide) (by decide)]; exact z3 j j0 j1, fun k k0 k1 => ?_⟩
        · rw [v73, z2]
          rfl
        · rw [v75]
          unfold fup at k1 ⊢
          by_cases q1 : 4 * p + k = 4 * b + n_d s b
          · rw [if_pos q1, if_pos q1]
          · rw [if_neg q1, if_neg q1]
            by_cases q2 : 4 * p + k = 4 * a + n_d s a
            · rw [if_pos q2, if_pos q2]
            · rw [if_neg q2, if_neg q2]
              refine z4 k k0 ?_
              by_cases x1 : p = b
              · rw [if_pos x1] at k1
                subst x1
                omega
              · rw [if_neg x1] at k1
                by_cases x2 : p = a
                · rw [if_pos x2] at k1
                  subst x2
                  omega
                · rw [if_neg x2] at k1; exact k1
      · have l1' : l < n_l s + 1 := l1
        show tm_v m8 78 l = fup (n_1 s) (n_l s) a l ∧ tm_v m8 79 l = fup (n_2 s) (n_l s) b l
        rw [v78, v79]
        unfold fup
        by_cases x : l = n_l s
        · rw [if_pos x, if_pos x, if_pos x, if_pos x]; exact ⟨rfl, rfl⟩
        · rw [if_neg x, if_neg x, if_neg x, if_neg x]; exact in1.2.2.1 l l0 (by omega)
      · rw [v65 _ (by decide)]; exact in1.2.2.2.1
      · rw [v65 _ (by decide)]; exact in1.2.2.2.2.1
      · rw [v65 _ (by decide)]; exact in1.2.2.2.2.2.1
      · rw [v65 _ (by decide)]; exact in1.2.2.2.2.2.2.1
      · rw [v65 _ (by decide)]; exact in1.2.2.2.2.2.2.2
  -- is there such a lane
  have dups : ∀ (a b : Int) (t3 : TK) (m : tm_M), (0 ≤ a ∧ a < n_p s) → (0 ≤ b ∧ b < n_p s) → a ≠ b → n_d s a ≠ 4 → n_d s b ≠ 4 → n_l s ≠ 12 → tFr wX6_readLane μ m → okP tx n m t3 → inT m s → (p_ln tx n s t = @ite _ (dup s a b) (Classical.propDecidable _) (.error (6, kfr t3)) (p_end tx n (n_lay s a b) (tok tx n (ken t3)))) →
      ∀ (q : Nat) (l : Int), 0 ≤ l → l + q = n_l s → (∀ l', 0 ≤ l' → l' < l → ¬ ((n_1 s l' = a ∧ n_2 s l' = b) ∨ (n_1 s l' = b ∧ n_2 s l' = a))) → hV wX6_readLane μ mX6_readLane d (exS tx n (p_ln tx n s t)) 137 [(0, 2, 65), (1, 0, a), (2, 0, b), (3, 0, l)] [] m := by
    intro a b t3 m ha hb hab da db hl12 hm hok hin hx q
    have h0 := hok.2.1
    have e23 : tm_v m 65 23 = n_l s := hin.1.2
    induction q with
    | zero =>
      intro l l0 lq hno
      have nd : ¬ dup s a b := fun ⟨l', hl', hd⟩ => hno l' hl'.1 (by omega) hd
      rw [if_neg nd] at hx
      refine uX6_readLane_137 hm ⟨fun _ => ?_, fun c => by omega⟩
      refine uX6_readLane_208 (by omega) hm ⟨fun c => absurd h0 c, fun _ => ?_⟩
      refine tC.V (pX6_nextK (by omega) hm.S hok) (fun m1 f1 ho => ?_)
      exact last a b _ m1 ha hb hab da db hl12 (hm.tr f1 (tWs_sub rfl)) ho.1 (inT_F f1 inW_next hin) hx
    | succ q ih =>
      intro l l0 lq hno
      have il := hin.2.2.1 l l0 (by omega)
      have nx : ¬ ((n_1 s l = a ∧ n_2 s l = b) ∨ (n_1 s l = b ∧ n_2 s l = a)) → hV wX6_readLane μ mX6_readLane d (exS tx n (p_ln tx n s t)) 202 [(0, 2, 65), (1, 0, a), (2, 0, b), (3, 0, l)] [] m := by
        intro hn
        refine uX6_readLane_202 hm ?_
        rw [w32_id (x := l + 1) (by omega) (by omega)]
        refine ih (l + 1) (by omega) (by omega) (fun l' a1 a2 => ?_)
        by_cases e : l' = l
        · rw [e]; exact hn
        · exact hno l' a1 (by omega)
      have yes : ((n_1 s l = a ∧ n_2 s l = b) ∨ (n_1 s l = b ∧ n_2 s l = a)) → hV wX6_readLane μ mX6_readLane d (exS tx n (p_ln tx n s t)) 192 [(0, 2, 65), (1, 0, a), (2, 0, b), (3, 0, l)] [] m := by
        intro hy
        rw [if_pos ⟨l, ⟨l0, by omega⟩, hy⟩] at hx
        refine uX6_readLane_192 (by omega) hm ?_
        rw [hok.2.2.1.2.1]
        refine tC.V (pX6_fail0 hm.S h0 (by decide)) (fun m1 f1 hbd => ?_)
        have F1 := hm.tr f1 (tWs_sub rfl)
        exact uX6_readLane_202 F1 (b137 _ _ _ m1 _ F1 hbd hx)
      have s172 : ¬ (n_1 s l = a ∧ n_2 s l = b) → hV wX6_readLane μ mX6_readLane d (exS tx n (p_ln tx n s t)) 172 [(0, 2, 65), (1, 0, a), (2, 0, b), (3, 0, l)] [] m := by
        intro hn
        refine uX6_readLane_172 hm ⟨by omega, ?_⟩
        rw [il.1, il.2]
        exact ⟨fun c => nx (fun q => by rcases q with q | q; exact hn q; exact c q.1), fun c => ⟨fun c2 => nx (fun q => by rcases q with q | q; exact hn q; exact c2 q.2), fun c2 => yes (Or.inr ⟨c, c2⟩)⟩⟩
      refine uX6_readLane_137 hm ⟨fun c => by omega, fun _ => ⟨fun c => absurd h0 c, fun _ => ⟨by omega, ?_⟩⟩⟩
      rw [il.1, il.2]
      exact ⟨fun c => s172 (fun q => c q.1), fun c => ⟨fun c2 => yes (Or.inl ⟨c, c2⟩), fun c2 => s172 (fun q => c2 q.2)⟩⟩
  have second : ∀ (a : Int) (t2 : TK) (m : tm_M), (0 ≤ a ∧ a < n_p s) → n_d s a ≠ 4 → n_l s ≠ 12 → tFr wX6_readLane μ m → okP tx n m t2 → inT m s → p_ln tx n s t = p_ln2 tx n s a t2 → hV wX6_readLane μ mX6_readLane d (exS tx n (p_ln tx n s t)) 74 [(0, 2, 65), (1, 0, a)] [] m := by
    intro a t2 m ha da hl12 hm hok hin hx
    have hT := hok.2.2.1
    have h0 := hok.2.1
    refine uX6_readLane_74 (by omega) hm ?_
    refine tC.V (pX6_must (by omega) hm.S hok) (fun m1 f1 ho => ?_)
    have F1 := hm.tr f1 (tWs_sub rfl)
    by_cases cw : isW t2 655
    · have eb : b2i (tm_v m 65 14 = 1 ∧ tm_v m 65 19 = 655) = 1 := b2i_t ((isW_T hT).mpr cw)
      rw [eb, if_neg (by decide)] at ho
      have hok1 : okP tx n m1 (tok tx n (ken t2)) := ho.1
      unfold p_ln2 at hx
      rw [if_neg (fun q => q cw)] at hx
      generalize tok tx n (ken t2) = t3 at *
      have in1 := inT_F f1 inW_must hin
      have hT1 := hok1.2.2.1
      refine tC.I (pX6_told (by omega) F1.S hok1.2.1 hT1 (by rw [in1.1.1]; exact hnp)) (fun b m2 f2 hr => ?_)
      have F2 := F1.tr f2 (tWs_sub rfl)
      by_cases cn : nmT t3
      · have en := named_T hT1 cn.1 in1 hnp.1
        by_cases cp : y_named m1 < 0
        · have hbd := hr.2.1 cn cp
          have he : p_ln tx n s t = .error (3, kfr t3) := by
            rw [hx]; unfold p_ln3; rw [if_neg (fun q => q cn), if_pos (by rw [← en]; exact cp)]
          exact ⟨fun _ => b108 a b m2 _ F2 hbd he, fun c => by have := hbd.1; have := hbd.2.1; omega⟩
        · obtain ⟨er, em⟩ := hr.2.2 cn (by omega)
          subst em
          rw [en] at er cp
          have hpn := p_nm_in (s := s) (w := kva t3) (by omega)
          rw [← er] at hpn
          have h02 := hok1.2.1
          refine ⟨fun c => absurd h02 c, fun _ => ⟨fun c => ?_, fun c => ?_⟩⟩
          · have ib := in1.2.1 b (by omega) hpn.1
            refine uX6_readLane_108 (by omega) F2 ⟨fun c => absurd h02 c, fun _ => ⟨by omega, ?_⟩⟩
            rw [ib.2.1]
            refine ⟨fun c4 => uX6_readLane_135 F2 ?_, fun c4 => ?_⟩
            · refine dups a b t3 m2 ha ⟨by omega, hpn.1⟩ c da c4 hl12 F2 hok1 in1 ?_ (n_l s).toNat 0 (by omega) (by omega) (fun l' a1 a2 => by omega)
              rw [hx]
              unfold p_ln3
              rw [← er, if_neg (fun q => q cn), if_neg (by omega), if_neg c, if_neg c4]
            · rw [hT1.2.1]
              refine tC.V (pX6_fail0 F2.S h02 (by decide)) (fun m3 f3 hbd => ?_)
              refine b135 a b m3 _ (F2.tr f3 (tWs_sub rfl)) hbd ?_
              rw [hx]
              unfold p_ln3
              rw [← er, if_neg (fun q => q cn), if_neg (by omega), if_neg c, if_pos c4]
          · rw [hT1.2.1]
            refine tC.V (pX6_fail0 F2.S h02 (by decide)) (fun m3 f3 hbd => ?_)
            refine b108 a b m3 _ (F2.tr f3 (tWs_sub rfl)) hbd ?_
            rw [hx]
            unfold p_ln3
            rw [← er, if_neg (fun q => q cn), if_neg (by omega), if_pos c]
      · have hbd := hr.1 cn
        have he : p_ln tx n s t = .error (wrg t3) := by rw [hx]; unfold p_ln3; rw [if_pos cn]
        exact ⟨fun _ => b108 a b m2 _ F2 hbd he, fun c => by have := hbd.1; have := hbd.2.1; omega⟩
    · have eb : b2i (tm_v m 65 14 = 1 ∧ tm_v m 65 19 = 655) = 0 := b2i_f (fun q => cw ((isW_T hT).mp q))
      rw [eb, if_pos rfl] at ho
      have hbd : bdP m1 (wrg t2) := ho.1
      have hpos : 0 < tm_v m1 65 12 := by rw [hbd.1]; exact hbd.2.1
      have he : p_ln tx n s t = .error (wrg t2) := by rw [hx]; unfold p_ln2; rw [if_pos cw]
      refine tC.I (pX6_toldB (by omega) F1.S hpos) (fun r m2 f2 em => ?_)
      subst em
      exact ⟨fun _ => b108 a r m2 _ F1 hbd he, fun c => by omega⟩
  have h0 := h.2.1
  have hT := h.2.2.1
  refine t_of (uX6_readLane_0 (by omega) (tFr.rf hs) ⟨fun c => ?_, fun c => ?_⟩)
  · rw [hi.1.2] at c
    refine uX6_readLane_19 (by omega) (tFr.rf hs) ⟨fun _ => ?_, fun c => by omega⟩
    refine tC.V (pX6_nextK (by omega) hs h) (fun m1 f1 ho => ?_)
    have F1 : tFr wX6_readLane μ m1 := (tFr.rf hs).tr f1 (tWs_sub rfl)
    have hok1 := ho.1
    have in1 := inT_F f1 inW_next hi
    have hx : p_ln tx n s t = p_ln1 tx n s (tok tx n (ken t)) := by unfold p_ln; rw [if_neg c]
    clear ho
    generalize tok tx n (ken t) = t1 at *
    have hT1 := hok1.2.2.1
    have h01 := hok1.2.1
    refine tC.I (pX6_told (by omega) F1.S h01 hT1 (by rw [in1.1.1]; exact hnp)) (fun a m2 f2 hr => ?_)
    have F2 := F1.tr f2 (tWs_sub rfl)
    by_cases cn : nmT t1
    · have en := named_T hT1 cn.1 in1 hnp.1
      by_cases cp : y_named m1 < 0
      · have hbd := hr.2.1 cn cp
        have he : p_ln tx n s t = .error (3, kfr t1) := by
          rw [hx]; unfold p_ln1; rw [if_neg (fun q => q cn), if_pos (by rw [← en]; exact cp)]
        exact ⟨fun _ => b63 a m2 _ F2 hbd he, fun c => by have := hbd.1; have := hbd.2.1; omega⟩
      · obtain ⟨er, em⟩ := hr.2.2 cn (by omega)
        subst em
        rw [en] at er cp
        have hpn := p_nm_in (s := s) (w := kva t1) (by omega)
        rw [← er] at hpn
        have ia := in1.2.1 a (by omega) hpn.1
        refine ⟨fun c => absurd h01 c, fun _ => ⟨by omega, ?_⟩⟩
        rw [ia.2.1]
        refine ⟨fun c4 => ?_, fun c4 => ?_⟩
        · refine uX6_readLane_63 (by omega) F2 ⟨fun c => absurd h01 c, fun _ => ?_⟩
          refine tC.V (pX6_nextK (by omega) F2.S hok1) (fun m3 f3 ho3 => ?_)
          refine second a _ m3 ⟨by omega, hpn.1⟩ c4 c (F2.tr f3 (tWs_sub rfl)) ho3.1 (inT_F f3 inW_next in1) ?_
          rw [hx]
          unfold p_ln1
          rw [← er, if_neg (fun q => q cn), if_neg (by omega), if_neg c4]
        · rw [hT1.2.1]
          refine tC.V (pX6_fail0 F2.S h01 (by decide)) (fun m3 f3 hbd => ?_)
          refine b63 a m3 _ (F2.tr f3 (tWs_sub rfl)) hbd ?_
          rw [hx]
          unfold p_ln1
          rw [← er, if_neg (fun q => q cn), if_neg (by omega), if_pos c4]
    · have hbd := hr.1 cn
      have he : p_ln tx n s t = .error (wrg t1) := by rw [hx]; unfold p_ln1; rw [if_pos cn]
      exact ⟨fun _ => b63 a m2 _ F2 hbd he, fun c => by have := hbd.1; have := hbd.2.1; omega⟩
  · rw [hi.1.2] at c
    rw [hT.2.1]
    refine tC.V (pX6_fail0 hs h0 (by decide)) (fun m1 f1 hbd => ?_)
    have F1 : tFr wX6_readLane μ m1 := (tFr.rf hs).tr f1 (tWs_sub rfl)
    refine uX6_readLane_19 (by omega) F1 ⟨fun c => by have := hbd.1; have := hbd.2.1; omega, fun _ => ?_⟩
    unfold p_ln
    rw [if_pos c]
    exact hbd
theorem pX6_readRest (hd : 5 ≤ d) (hs : tS μ) (h : okP tx n μ t) (hi : inT μ s) : cV wX6_readRest mX6_readRest d [(2, 65)] μ (exS tx n (p_rs tx n s t)) := by
  have h0 := h.2.1
  have hT := h.2.2.1
  have b141 : ∀ m e, tFr wX6_readRest μ m → bdP m e → p_rs tx n s t = .error e → hV wX6_readRest μ mX6_readRest d (exS tx n (p_rs tx n s t)) 141 [(0, 2, 65)] [] m := by
    intro m e hm hb he
    have hpos : 0 < tm_v m 65 12 := by rw [hb.1]; exact hb.2.1
    refine uX6_readRest_141 (by omega) hm ⟨fun _ => tC.V (pX6_mustB (by omega) hm.S hpos) (fun m' fm' em => ?_), fun _ => tC.V (pX6_mustB (by omega) hm.S hpos) (fun m' fm' em => ?_)⟩
    all_goals
      subst em
      rw [he]; exact hb
  have b80 : ∀ v1 v2 m e, tFr wX6_readRest μ m → bdP m e → p_rs tx n s t = .error e → hV wX6_readRest μ mX6_readRest d (exS tx n (p_rs tx n s t)) 80 [(0, 2, 65), (1, 0, v1), (2, 0, v2)] [] m := by
    intro v1 v2 m e hm hb he
    exact uX6_readRest_80 (by omega) hm ⟨fun c => by have := hb.1; have := hb.2.1; omega, fun _ => by rw [he]; exact hb⟩
  -- the sign at the end
  have fin : ∀ s' t' m, tFr wX6_readRest μ m → okP tx n m t' → inT m s' → p_rs tx n s t = p_end tx n s' t' → hV wX6_readRest μ mX6_readRest d (exS tx n (p_rs tx n s t)) 141 [(0, 2, 65)] [] m := by
    intro s' t' m hm hok hin hx
    refine uX6_readRest_141 (by omega) hm ?_
    rw [hok.2.2.1.1]
    refine ⟨fun c3 => tC.V (pX6_must (by omega) hm.S hok) (fun m1 f1 ho => ?_), fun c3 => tC.V (pX6_must (by omega) hm.S hok) (fun m1 f1 ho => ?_)⟩
    · rw [if_pos rfl] at ho
      rw [hx]; unfold p_end; rw [if_pos c3]; exact ho.1
    · rw [if_neg (by decide)] at ho
      rw [hx]; unfold p_end; rw [if_neg (fun q => q c3)]
      exact ⟨ho.1, inT_F f1 inW_must hin⟩
  have again : ∀ v1 v2, p_rs tx n s t = .error (5, kfr t) → hV wX6_readRest μ mX6_readRest d (exS tx n (p_rs tx n s t)) 71 [(0, 2, 65), (1, 0, v1), (2, 0, v2)] [] μ := by
    intro v1 v2 he
    refine uX6_readRest_71 (by omega) (tFr.rf hs) ?_
    rw [hT.2.1]
    refine tC.V (pX6_fail0 hs h0 (by decide)) (fun m1 f1 hbd => ?_)
    exact b80 _ _ m1 _ ((tFr.rf hs).tr f1 (tWs_sub rfl)) hbd he
  obtain ⟨i1, i2, i3, i26, i27, i29, i60, i61⟩ := hi
  have hi' : inT μ s := ⟨i1, i2, i3, i26, i27, i29, i60, i61⟩
  refine t_of (uX6_readRest_0 (by omega) (tFr.rf hs) ?_)
  rintro x4 e4 x8 e8
  by_cases cS : isW t 635383
  · have e4' : x4 = 1 := by rw [e4]; exact b2i_t ((isW_T hT).mpr cS)
    subst e4'
    refine ⟨fun _ => ?_, fun c => absurd c (by decide)⟩
    refine uX6_readRest_29 (tFr.rf hs) ⟨fun c => absurd h0 c, fun _ => ⟨fun c => absurd c (by decide), fun _ => ⟨fun c => ?_, fun c => ?_⟩⟩⟩
    · rw [i60] at c
      refine uX6_readRest_80 (by omega) (tFr.rf hs) ⟨fun _ => ?_, fun c => by omega⟩
      refine tC.V (pX6_nextK (by omega) hs h) (fun m1 f1 ho => ⟨fun c => absurd c (by decide), fun _ => ?_⟩)
      have F1 : tFr wX6_readRest μ m1 := (tFr.rf hs).tr f1 (tWs_sub rfl)
      have in1 := inT_F f1 inW_next hi'
      refine tC.I (pX6_count (by omega) F1.S ho.1) (fun r m2 f2 hr m3 e3 m4 e4 => ?_)
      have F2 := F1.tr f2 (tWs_sub rfl)
      have F3 : tFr wX6_readRest μ m3 := by rw [e3]; exact F2.w (tWs_inF rfl) (tS_wj F2.S _ (by decide))
      have F4 : tFr wX6_readRest μ m4 := by rw [e4]; exact F3.w (tWs_inF rfl) (tS_wj F3.S _ (by decide))
      have va : ∀ a j, a ≠ 65 → tm_v m4 a j = tm_v m2 a j := fun a j ha => by rw [e4, e3]; simp [tm_vw, ha]
      have vj : ∀ j, j ≠ 26 → j ≠ 60 → tm_v m4 65 j = tm_v m2 65 j := fun j h1 h2 => by rw [e4, e3]; simp [tm_vw, h1, h2]
      cases hc : p_cnt tx n (tok tx n (ken t)) 1 4 with
      | error e =>
        rw [hc] at hr
        have hbd : bdP m2 e := hr
        refine b141 m4 e F4 ⟨by rw [vj _ (by decide) (by decide)]; exact hbd.1, hbd.2.1, by rw [vj _ (by decide) (by decide)]; exact hbd.2.2⟩ ?_
        unfold p_rs
        rw [if_pos cS, if_neg (fun q => q c), hc]
      | ok x =>
        obtain ⟨v, t3⟩ := x
        rw [hc] at hr
        obtain ⟨er, ho2⟩ : r = v ∧ okP tx n m2 t3 := hr
        have in2 := inT_F f2 inW_count in1
        refine fin (n_p s, n_m s, n_f s, n_d s, n_a s, n_l s, n_1 s, n_2 s, v, n_h s, n_c s, 1, n_u s) t3 m4 F4 (okP_w ho2 (fun k => va _ _ (by decide)) (fun j hj => vj j (by omega) (by omega))) ⟨⟨?_, ?_⟩, fun p p0 p1 => ?_, fun l l0 l1 => ?_, ?_, ?_, ?_, ?_, ?_⟩ ?_
        · rw [vj _ (by decide) (by decide)]; exact in2.1.1
        · rw [vj _ (by decide) (by decide)]; exact in2.1.2
        · obtain ⟨z1, z2, z3, z4⟩ := in2.2.1 p p0 p1
          exact ⟨by rw [va _ _ (by decide)]; exact z1, by rw [va _ _ (by decide)]; exact z2, fun j j0 j1 => by rw [va _ _ (by decide)]; exact z3 j j0 j1, fun k k0 k1 => by rw [va _ _ (by decide)]; exact z4 k k0 k1⟩
        · rw [va _ _ (by decide), va _ _ (by decide)]; exact in2.2.2.1 l l0 l1
        · rw [e4, e3]; simp [tm_vw]; exact er
        · rw [vj _ (by decide) (by decide)]; exact in2.2.2.2.2.1
        · rw [vj _ (by decide) (by decide)]; exact in2.2.2.2.2.2.1
        · rw [e4]; simp [tm_vw]; rfl
        · rw [vj _ (by decide) (by decide)]; exact in2.2.2.2.2.2.2.2
        · unfold p_rs
          rw [if_pos cS, if_neg (fun q => q c), hc]
    · rw [i60] at c
      refine again _ _ ?_
      unfold p_rs
      rw [if_pos cS, if_pos c]
  · have e4' : x4 = 0 := by rw [e4]; exact b2i_f (fun q => cS ((isW_T hT).mp q))
    subst e4'
    refine ⟨fun c => absurd rfl c, fun _ => ?_⟩
    by_cases cH : isW t 8554067
    · have e8' : x8 = 1 := by rw [e8]; exact b2i_t ((isW_T hT).mpr cH)
      subst e8'
      refine ⟨fun _ => ?_, fun c => absurd c (by decide)⟩
      refine uX6_readRest_29 (tFr.rf hs) ⟨fun c => absurd h0 c, fun _ => ⟨fun _ => ⟨fun c => absurd c (by decide), fun _ => ⟨fun c => ?_, fun c => ?_⟩⟩, fun c => absurd rfl c⟩⟩
      · rw [i61] at c
        refine uX6_readRest_80 (by omega) (tFr.rf hs) ⟨fun _ => ?_, fun c => by omega⟩
        refine tC.V (pX6_nextK (by omega) hs h) (fun m1 f1 ho => ⟨fun _ => ⟨fun c => absurd c (by decide), fun _ => ?_⟩, fun c => absurd rfl c⟩)
        have F1 : tFr wX6_readRest μ m1 := (tFr.rf hs).tr f1 (tWs_sub rfl)
        have in1 := inT_F f1 inW_next hi'
        refine tC.I (pX6_count (by omega) F1.S ho.1) (fun r m2 f2 hr m3 e3 m4 e4 => ?_)
        have F2 := F1.tr f2 (tWs_sub rfl)
        have F3 : tFr wX6_readRest μ m3 := by rw [e3]; exact F2.w (tWs_inF rfl) (tS_wj F2.S _ (by decide))
        have F4 : tFr wX6_readRest μ m4 := by rw [e4]; exact F3.w (tWs_inF rfl) (tS_wj F3.S _ (by decide))
        have va : ∀ a j, a ≠ 65 → tm_v m4 a j = tm_v m2 a j := fun a j ha => by rw [e4, e3]; simp [tm_vw, ha]
        have vj : ∀ j, j ≠ 27 → j ≠ 61 → tm_v m4 65 j = tm_v m2 65 j := fun j h1 h2 => by rw [e4, e3]; simp [tm_vw, h1, h2]
        cases hc : p_cnt tx n (tok tx n (ken t)) 0 3 with
        | error e =>
          rw [hc] at hr
          have hbd : bdP m2 e := hr
          refine b141 m4 e F4 ⟨by rw [vj _ (by decide) (by decide)]; exact hbd.1, hbd.2.1, by rw [vj _ (by decide) (by decide)]; exact hbd.2.2⟩ ?_
          unfold p_rs
          rw [if_neg cS, if_pos cH, if_neg (fun q => q c), hc]
        | ok x =>
          obtain ⟨v, t3⟩ := x
          rw [hc] at hr
          obtain ⟨er, ho2⟩ : r = v ∧ okP tx n m2 t3 := hr
          have in2 := inT_F f2 inW_count in1
          refine fin (n_p s, n_m s, n_f s, n_d s, n_a s, n_l s, n_1 s, n_2 s, n_s s, v, n_c s, n_t s, 1) t3 m4 F4 (okP_w ho2 (fun k => va _ _ (by decide)) (fun j hj => vj j (by omega) (by omega))) ⟨⟨?_, ?_⟩, fun p p0 p1 => ?_, fun l l0 l1 => ?_, ?_, ?_, ?_, ?_, ?_⟩ ?_
          · rw [vj _ (by decide) (by decide)]; exact in2.1.1
          · rw [vj _ (by decide) (by decide)]; exact in2.1.2
          · obtain ⟨z1, z2, z3, z4⟩ := in2.2.1 p p0 p1
            exact ⟨by rw [va _ _ (by decide)]; exact z1, by rw [va _ _ (by decide)]; exact z2, fun j j0 j1 => by rw [va _ _ (by decide)]; exact z3 j j0 j1, fun k k0 k1 => by rw [va _ _ (by decide)]; exact z4 k k0 k1⟩
          · rw [va _ _ (by decide), va _ _ (by decide)]; exact in2.2.2.1 l l0 l1
          · rw [vj _ (by decide) (by decide)]; exact in2.2.2.2.1
          · rw [e4, e3]; simp [tm_vw]; exact er
          · rw [vj _ (by decide) (by decide)]; exact in2.2.2.2.2.2.1
          · rw [vj _ (by decide) (by decide)]; exact in2.2.2.2.2.2.2.1
          · rw [e4]; simp [tm_vw]; rfl
          · unfold p_rs
            rw [if_neg cS, if_pos cH, if_neg (fun q => q c), hc]
      · rw [i61] at c
        refine again _ _ ?_
        unfold p_rs
        rw [if_neg cS, if_pos cH, if_pos c]
    · have e8' : x8 = 0 := by rw [e8]; exact b2i_f (fun q => cH ((isW_T hT).mp q))
      subst e8'
      refine ⟨fun c => absurd rfl c, fun _ => ⟨fun cC => ?_, fun cC => ?_⟩⟩
      · have cC' := (isW_T hT).mp cC
        refine uX6_readRest_29 (tFr.rf hs) ⟨fun c => absurd h0 c, fun _ => ⟨fun _ => ⟨fun _ => ⟨fun c => ?_, fun c => ?_⟩, fun c => absurd rfl c⟩, fun c => absurd rfl c⟩⟩
        · rw [i29] at c
          refine uX6_readRest_80 (by omega) (tFr.rf hs) ⟨fun _ => ?_, fun c => by omega⟩
          refine tC.V (pX6_nextK (by omega) hs h) (fun m1 f1 ho => ⟨fun _ => ⟨fun _ => ?_, fun c => absurd rfl c⟩, fun c => absurd rfl c⟩)
          intro m2 e2
          have F1 : tFr wX6_readRest μ m1 := (tFr.rf hs).tr f1 (tWs_sub rfl)
          have in1 := inT_F f1 inW_next hi'
          have F2 : tFr wX6_readRest μ m2 := by rw [e2]; exact F1.w (tWs_inF rfl) (tS_wj F1.S _ (by decide))
          have va : ∀ a j, a ≠ 65 → tm_v m2 a j = tm_v m1 a j := fun a j ha => by rw [e2]; simp [tm_vw, ha]
          have vj : ∀ j, j ≠ 29 → tm_v m2 65 j = tm_v m1 65 j := fun j h1 => by rw [e2]; simp [tm_vw, h1]
          refine fin (n_p s, n_m s, n_f s, n_d s, n_a s, n_l s, n_1 s, n_2 s, n_s s, n_h s, 1, n_t s, n_u s) _ m2 F2 (okP_w ho.1 (fun k => va _ _ (by decide)) (fun j hj => vj j (by omega))) ⟨⟨?_, ?_⟩, fun p p0 p1 => ?_, fun l l0 l1 => ?_, ?_, ?_, ?_, ?_, ?_⟩ ?_
          · rw [vj _ (by decide)]; exact in1.1.1
          · rw [vj _ (by decide)]; exact in1.1.2
          · obtain ⟨z1, z2, z3, z4⟩ := in1.2.1 p p0 p1
            exact ⟨by rw [va _ _ (by decide)]; exact z1, by rw [va _ _ (by decide)]; exact z2, fun j j0 j1 => by rw [va _ _ (by decide)]; exact z3 j j0 j1, fun k k0 k1 => by rw [va _ _ (by decide)]; exact z4 k k0 k1⟩
          · rw [va _ _ (by decide), va _ _ (by decide)]; exact in1.2.2.1 l l0 l1
          · rw [vj _ (by decide)]; exact in1.2.2.2.1
          · rw [vj _ (by decide)]; exact in1.2.2.2.2.1
          · rw [e2]; simp [tm_vw]; rfl
          · rw [vj _ (by decide)]; exact in1.2.2.2.2.2.2.1
          · rw [vj _ (by decide)]; exact in1.2.2.2.2.2.2.2
          · unfold p_rs
            rw [if_neg cS, if_neg cH, if_pos cC', if_neg (fun q => q c)]
        · rw [i29] at c
          refine again _ _ ?_
          unfold p_rs
          rw [if_neg cS, if_neg cH, if_pos cC', if_pos c]
      · have cC' : ¬ isW t 3751539 := fun q => cC ((isW_T hT).mpr q)
        refine tC.V (pX6_wrong0 (by omega) hs h0 hT) (fun m1 f1 hbd => ?_)
        have F1 : tFr wX6_readRest μ m1 := (tFr.rf hs).tr f1 (tWs_sub rfl)
        have hne : tm_v m1 65 12 ≠ 0 := by rw [hbd.1]; have := hbd.2.1; omega
        refine uX6_readRest_29 F1 ⟨fun _ => b80 _ _ m1 _ F1 hbd ?_, fun c => absurd c hne⟩
        unfold p_rs
        rw [if_neg cS, if_neg cH, if_neg cC']
end C7G
