/-! CONTRACTS of the model: readPlace, readRest -/
section C7F
variable {d : Nat} {μ μ0 : tm_M} {W : Int → Int → Prop} {tx : Int → Int} {n : Int} {t : TK} {s : TN}
/-- the town's cells, but those of the token, stay -/
def inW (W : Int → Int → Prop) : Prop := (∀ j, ¬ W 71 j ∧ ¬ W 73 j ∧ ¬ W 75 j ∧ ¬ W 78 j ∧ ¬ W 79 j ∧ ¬ W 81 j) ∧ ¬ W 65 22 ∧ ¬ W 65 23 ∧ ¬ W 65 26 ∧ ¬ W 65 27 ∧ ¬ W 65 29 ∧ ¬ W 65 60 ∧ ¬ W 65 61
theorem inW_of {B : List (Int × Int)} (h : ([71, 73, 75, 78, 79, 81].all (fun a => B.all (fun q => !decide (q.1 = a))) && [22, 23, 26, 27, 29, 60, 61].all (fun j => B.all (fun q => !decide (q = (65, j))))) = true) : inW (tWs [] B) := by
  simp only [List.all_cons, List.all_nil, Bool.and_true, Bool.and_eq_true] at h
  obtain ⟨⟨a1, a2, a3, a4, a5, a6⟩, b1, b2, b3, b4, b5, b6, b7⟩ := h
  refine ⟨fun j => ⟨tWs_no j ?_, tWs_no j ?_, tWs_no j ?_, tWs_no j ?_, tWs_no j ?_, tWs_no j ?_⟩, tWs_noF ?_, tWs_noF ?_, tWs_noF ?_, tWs_noF ?_, tWs_noF ?_, tWs_noF ?_, tWs_noF ?_⟩ <;> rw [Bool.and_eq_true] <;> refine ⟨by rfl, ?_⟩ <;> assumption
theorem inT_F (hs : tFr W μ0 μ) (hW : inW W) (h : inT μ0 s) : inT μ s := by
  obtain ⟨hj, h22, h23, h26, h27, h29, h60, h61⟩ := hW
  unfold inT at *
  simp only [hs.v (hj _).1, hs.v (hj _).2.1, hs.v (hj _).2.2.1, hs.v (hj _).2.2.2.1, hs.v (hj _).2.2.2.2.1, hs.v (hj _).2.2.2.2.2, hs.v h22, hs.v h23, hs.v h26, hs.v h27, hs.v h29, hs.v h60, hs.v h61]
  exact h
theorem inW_next : inW wX6_next := inW_of rfl
theorem inW_must : inW wX6_must := inW_of rfl
theorem inW_count : inW wX6_count := inW_of rfl
theorem inW_fail : inW wX6_fail := inW_of rfl
theorem pX6_readPlace (hd : 5 ≤ d) (hs : tS μ) (h : okP tx n μ t) (hi : inT μ s) (hw : wfT s) : cV wX6_readPlace mX6_readPlace d [(2, 65)] μ (exS tx n (p_pl tx n s (tok tx n (ken t)))) := by
  have hnp := hw.1.1
  generalize et1 : tok tx n (ken t) = t1
  have b214 : ∀ m e, tFr wX6_readPlace μ m → bdP m e → p_pl tx n s t1 = .error e → hV wX6_readPlace μ mX6_readPlace d (exS tx n (p_pl tx n s t1)) 214 [(0, 2, 65)] [] m := by
    intro m e hm hb he
    have hpos : 0 < tm_v m 65 12 := by rw [hb.1]; exact hb.2.1
    refine uX6_readPlace_214 (by omega) hm ⟨fun _ => tC.V (pX6_mustB (by omega) hm.S hpos) (fun m' fm' em => ?_), fun _ => tC.V (pX6_mustB (by omega) hm.S hpos) (fun m' fm' em => ?_)⟩
    all_goals
      subst em
      exact ⟨fun _ => uX6_readPlace_248 hm (by rw [he]; exact hb), fun c => by omega⟩
  have b131 : ∀ v1 v2 m e, tFr wX6_readPlace μ m → bdP m e → p_pl tx n s t1 = .error e → hV wX6_readPlace μ mX6_readPlace d (exS tx n (p_pl tx n s t1)) 131 [(0, 2, 65), (1, 0, v1), (2, 0, v2)] [] m := by
    intro v1 v2 m e hm hb he
    exact uX6_readPlace_131 (by omega) hm ⟨fun _ => b214 m e hm hb he, fun c => by have := hb.1; have := hb.2.1; omega⟩
  have b64 : ∀ m e, tFr wX6_readPlace μ m → bdP m e → p_pl tx n s t1 = .error e → hV wX6_readPlace μ mX6_readPlace d (exS tx n (p_pl tx n s t1)) 64 [(0, 2, 65)] [] m := by
    intro m e hm hb he
    exact uX6_readPlace_64 (by omega) hm ⟨fun c => by have := hb.1; have := hb.2.1; omega, fun _ => by rw [he]; exact hb⟩
  have b38 : ∀ m e, tFr wX6_readPlace μ m → bdP m e → p_pl tx n s t1 = .error e → hV wX6_readPlace μ mX6_readPlace d (exS tx n (p_pl tx n s t1)) 38 [(0, 2, 65)] [] m := by
    intro m e hm hb he
    exact uX6_readPlace_38 (by omega) hm ⟨fun _ => b64 m e hm hb he, fun c => by have := hb.1; have := hb.2.1; omega⟩
  have b15 : ∀ m e, tFr wX6_readPlace μ m → bdP m e → p_pl tx n s t1 = .error e → hV wX6_readPlace μ mX6_readPlace d (exS tx n (p_pl tx n s t1)) 15 [(0, 2, 65)] [] m := by
    intro m e hm hb he
    exact uX6_readPlace_15 (by omega) hm ⟨fun _ => b38 m e hm hb he, fun c => by have := hb.1; have := hb.2.1; omega⟩
  -- the features
  have loop : nmT t1 → p_nm s (kva t1) < 0 → n_p s < 8 → ∀ (q : Nat) (g f : Int → Int) (U : Nat) (t2 : TK) (m : tm_M), U < 256 → (∀ j : Nat, j < 3 → ((U / 2 ^ j % 2 : Nat) : Int) = g j) → (∀ j, 0 ≤ j → j < 3 → g j = 0 ∨ g j = 1) → g 0 + g 1 + g 2 + q = 4 → tFr wX6_readPlace μ m → okP tx n m t2 → inT m s → tm_v m 81 (n_p s) = kva t1 → tm_v m 73 (n_p s) = 0 → (∀ j, 0 ≤ j → j < 3 → tm_v m 71 (3 * n_p s + j) = f (3 * n_p s + j)) → (∀ j, j < 3 * n_p s → f j = n_f s j) →
      p_pl tx n s t1 = (match p_fts tx n (n_p s) q g f t2 with
        | .error e => .error e
        | .ok (f, t') => p_end tx n (n_p s + 1, fup (n_m s) (n_p s) (kva t1), f, fup (n_d s) (n_p s) 0, n_a s, n_l s, n_1 s, n_2 s, n_s s, n_h s, n_c s, n_t s, n_u s) t') →
      hV wX6_readPlace μ mX6_readPlace d (exS tx n (p_pl tx n s t1)) 131 [(0, 2, 65), (1, 0, n_p s), (2, 0, (U : Int))] [] m := by
    intro hnm hno h8 q
    induction q with
    | zero =>
      intro g f U t2 m hU hg h01 hq
      have := h01 0 (by omega) (by omega)
      have := h01 1 (by omega) (by omega)
      have := h01 2 (by omega) (by omega)
      omega
    | succ q ih =>
      intro g f U t2 m hU hg h01 hq hm hok hin h81 h73 h71 hf hx
      have h0 := hok.2.1
      have hT := hok.2.2.1
      have ef := feature_T hT
      have hfr : ftT t2 = -1 ∨ ftT t2 = 0 ∨ ftT t2 = 1 ∨ ftT t2 = 2 := by unfold ftT; split; omega; split; omega; split <;> omega
      refine uX6_readPlace_131 (by omega) hm ⟨fun c => absurd h0 c, fun _ => ?_⟩
      rw [ef]
      refine ⟨fun c => ?_, fun c => ?_⟩
      · rw [p_fts, if_pos c] at hx
        refine uX6_readPlace_214 (by omega) hm ?_
        rw [hT.1]
        refine ⟨fun c3 => tC.V (pX6_must (by omega) hm.S hok) (fun m' fm' hm' => ?_), fun c3 => tC.V (pX6_must (by omega) hm.S hok) (fun m' fm' hm' => ?_)⟩
        · rw [if_pos rfl] at hm'
          have hb : bdP m' (wrg t2) := hm'.1
          refine ⟨fun _ => uX6_readPlace_248 (hm.tr fm' (tWs_sub rfl)) ?_, fun c => by have := hb.1; have := hb.2.1; omega⟩
          rw [hx]
          show exS tx n (p_end tx n _ t2) m'
          unfold p_end
          rw [if_pos c3]
          exact hb
        · rw [if_neg (by decide)] at hm'
          have hok' : okP tx n m' (tok tx n (ken t2)) := hm'.1
          have F' := hm.tr fm' (tWs_sub rfl)
          refine ⟨fun c => absurd hok'.2.1 c, fun _ m2 e2 => uX6_readPlace_248 ?_ ?_⟩
          · rw [e2]; exact F'.w (tWs_inF rfl) (tS_wj F'.S _ (by decide))
          · have hin' := inT_F fm' inW_must hin
            rw [hin'.1.1, w32_id (x := n_p s + 1) (by omega) (by omega)] at e2
            rw [hx]
            show exS tx n (p_end tx n _ t2) m2
            unfold p_end
            rw [if_neg (fun q => q c3)]
            have va : ∀ a j, a ≠ 65 → tm_v m2 a j = tm_v m' a j := fun a j ha => by rw [e2, tm_vw, if_neg (fun q => ha q.1)]
            have vj : ∀ j, j ≠ 22 → tm_v m2 65 j = tm_v m' 65 j := fun j hj => by rw [e2, tm_vw, if_neg (fun q => hj q.2)]
            have e22 : tm_v m2 65 22 = n_p s + 1 := by rw [e2, tm_vw, if_pos ⟨rfl, rfl⟩]
            refine ⟨⟨?_, ?_, ?_, hok'.2.2.2.1, hok'.2.2.2.2⟩, ⟨?_, ?_⟩, fun p p0 p1 => ?_, fun l l0 l1 => ?_, ?_, ?_, ?_, ?_, ?_⟩
            · obtain ⟨⟨x1, x2⟩, x3, x4⟩ := hok'.1
              refine ⟨⟨fun k => by rw [va _ _ (by decide)]; exact x1 k, by rw [vj _ (by decide)]; exact x2⟩, by rw [vj _ (by decide)]; exact x3, ?_⟩
              rw [← x4]; funext k; unfold y_tx; rw [va _ _ (by decide)]
            · rw [vj _ (by decide)]; exact hok'.2.1
            · have := hok'.2.2.1
              unfold hasT at *
              rw [vj _ (by decide), vj _ (by decide), vj _ (by decide), vj _ (by decide), vj _ (by decide), vj _ (by decide)]
              exact this
            · exact e22
            · rw [vj _ (by decide)]; exact hin'.1.2
            · show tm_v m2 81 p = fup (n_m s) (n_p s) (kva t1) p ∧ tm_v m2 73 p = fup (n_d s) (n_p s) 0 p ∧ (∀ j, 0 ≤ j → j < 3 → tm_v m2 71 (3 * p + j) = f (3 * p + j)) ∧ ∀ k, 0 ≤ k → k < fup (n_d s) (n_p s) 0 p → tm_v m2 75 (4 * p + k) = n_a s (4 * p + k)
              have p1' : p < n_p s + 1 := p1
              rw [va _ _ (by decide), va _ _ (by decide)]
              by_cases ep : p = n_p s
              · rw [ep]
                unfold fup
                rw [if_pos rfl, if_pos rfl]
                refine ⟨?_, ?_, fun j j0 j1 => ?_, fun k k0 k1 => by omega⟩
                · rw [fm'.v (tWs_no _ rfl)]; exact h81
                · rw [fm'.v (tWs_no _ rfl)]; exact h73
                · rw [va _ _ (by decide), fm'.v (tWs_no _ rfl)]; exact h71 j j0 j1
              · unfold fup
                rw [if_neg ep, if_neg ep]
                obtain ⟨y1, y2, y3, y4⟩ := hin'.2.1 p p0 (by omega)
                refine ⟨y1, y2, fun j j0 j1 => ?_, fun k k0 k1 => ?_⟩
                · rw [va _ _ (by decide), y3 j j0 j1, hf _ (by omega)]
                · rw [va _ _ (by decide)]; exact y4 k k0 k1
            · rw [va _ _ (by decide), va _ _ (by decide)]; exact hin'.2.2.1 l l0 l1
            · rw [vj _ (by decide)]; exact hin'.2.2.2.1
            · rw [vj _ (by decide)]; exact hin'.2.2.2.2.1
            · rw [vj _ (by decide)]; exact hin'.2.2.2.2.2.1
            · rw [vj _ (by decide)]; exact hin'.2.2.2.2.2.2.1
            · rw [vj _ (by decide)]; exact hin'.2.2.2.2.2.2.2
      · rintro _ rfl
        rw [p_fts, if_neg (by omega)] at hx
        obtain ⟨F, eF⟩ : ∃ F : Nat, ftT t2 = F := ⟨(ftT t2).toNat, by omega⟩
        have hF3 : F < 3 := by omega
        have ebit : i_and (i_shr (U : Int) (ftT t2)) 1 = g (ftT t2) := by
          rw [eF, ← hg F hF3]
          exact bit_e ⟨U, hU⟩ ⟨F, by omega⟩
        rw [ebit]
        refine ⟨fun c1 => ?_, fun c1 => ?_⟩
        · rw [if_neg c1] at hx
          have g0 : g (ftT t2) = 0 := by have := h01 (ftT t2) (by omega) (by omega); omega
          refine uX6_readPlace_168 (by omega) hm ⟨fun _ => ?_, fun c => by omega⟩
          rintro _ rfl
          have eor : i_or (U : Int) (i_shl 1 (ftT t2)) = ((U ||| 2 ^ F : Nat) : Int) := by rw [eF]; exact bit_o ⟨U, hU⟩ ⟨F, by omega⟩
          rw [eor]
          refine tC.V (pX6_nextK (by omega) hm.S hok) (fun m1 f1 ho1 => ?_)
          have F1 := hm.tr f1 (tWs_sub rfl)
          have in1 := inT_F f1 inW_next hin
          -- the number is told
          have told : ∀ hi, hi = (if ftT t2 = 0 then 5 else 9) → cI wX6_count mX6_count (d - 1) [(2, 65), (0, 0), (0, hi)] m1 (fun r8 μ7 => (0 ≤ w32 ((w32 (3 * n_p s)) + ftT t2) ∧ w32 ((w32 (3 * n_p s)) + ftT t2) < 24) ∧ ((∀ μ10, μ10 = tm_w μ7 71 (w32 ((w32 (3 * n_p s)) + ftT t2)) r8 → hV wX6_readPlace μ mX6_readPlace d (exS tx n (p_pl tx n s t1)) 131 [(0, 2, 65), (1, 0, n_p s), (2, 0, ((U ||| 2 ^ F : Nat) : Int))] [] μ10))) := by
            intro hi ehi
            refine tC.I (pX6_count (by omega) F1.S ho1.1) (fun r m2 f2 hr => ?_)
            rw [w32_id (x := 3 * n_p s) (by omega) (by omega), w32_id (x := 3 * n_p s + ftT t2) (by omega) (by omega)]
            refine ⟨by omega, fun m3 e3 => ?_⟩
            have F2 := F1.tr f2 (tWs_sub rfl)
            have F3 : tFr wX6_readPlace μ m3 := by rw [e3]; exact F2.w (tWs_in _ rfl) (tS_w F2.S sf_71 _ _)
            have v65 : ∀ j, tm_v m3 65 j = tm_v m2 65 j := fun j => by rw [e3, tm_vw, if_neg (by omega)]
            rw [← ehi] at hx
            cases hc : p_cnt tx n (tok tx n (ken t2)) 0 hi with
            | error e =>
              rw [hc] at hr hx
              refine b131 _ _ m3 e F3 ?_ hx
              have hb : bdP m2 e := hr
              exact ⟨by rw [v65]; exact hb.1, hb.2.1, by rw [v65]; exact hb.2.2⟩
            | ok x =>
              obtain ⟨v, t3⟩ := x
              rw [hc] at hr hx
              obtain ⟨er, ho2⟩ : r = v ∧ okP tx n m2 t3 := hr
              have in2 := inT_F f2 inW_count in1
              have v71 : ∀ j, tm_v m3 71 j = if j = 3 * n_p s + ftT t2 then v else tm_v m2 71 j := by
                intro j
                rw [e3, tm_vw, er]
                by_cases e : j = 3 * n_p s + ftT t2
                · rw [if_pos ⟨rfl, e⟩, if_pos e]
                · rw [if_neg (fun q => e q.2), if_neg e]
              have vne : ∀ a j, a ≠ 71 → tm_v m3 a j = tm_v m2 a j := fun a j ha => by rw [e3, tm_vw, if_neg (fun q => ha q.1)]
              have hgF : ∀ j, fup g (ftT t2) 1 j = if j = ftT t2 then 1 else g j := fun j => rfl
              refine ih (fup g (ftT t2) 1) (fup f (3 * n_p s + ftT t2) v) (U ||| 2 ^ F) t3 m3 (bit_n ⟨U, hU⟩ ⟨F, by omega⟩) (fun j hj => ?_) (fun j j0 j1 => ?_) ?_ F3 ?_ ?_ ?_ ?_ (fun j j0 j1 => ?_) (fun j hj => ?_) hx
              · have hb := bit_x ⟨U, hU⟩ ⟨F, by omega⟩ ⟨j, by omega⟩
                dsimp only at hb
                have hgj := hg j hj
                have h01j := h01 j (by omega) (by omega)
                rw [hgF]
                by_cases e : j = F
                · rw [if_pos (by omega)]
                  have := hb.mpr (Or.inr e)
                  omega
                · rw [if_neg (by omega)]
                  by_cases c4 : U / 2 ^ j % 2 = 1
                  · have := hb.mpr (Or.inl c4); omega
                  · have : ¬ (U ||| 2 ^ F) / 2 ^ j % 2 = 1 := fun q => by rcases hb.mp q with q | q; exact c4 q; exact e q
                    omega
              · rw [hgF]
                split
                · omega
                · exact h01 j j0 j1
              · rw [hgF, hgF, hgF]
                rcases hfr with e | e | e | e <;> rw [e] at g0 ⊢ <;> simp <;> omega
              · obtain ⟨⟨⟨x1, x2⟩, x3, x4⟩, x5, x6, x7, x8⟩ := ho2
                refine ⟨⟨⟨fun k => by rw [vne _ _ (by decide)]; exact x1 k, by rw [v65]; exact x2⟩, by rw [v65]; exact x3, ?_⟩, by rw [v65]; exact x5, ?_, x7, x8⟩
                · rw [← x4]; funext k; unfold y_tx; rw [vne _ _ (by decide)]
                · unfold hasT at *; simp only [v65]; exact x6
              · unfold inT at in2 ⊢
                obtain ⟨y1, y2, y3⟩ := in2
                simp only [v65]
                refine ⟨y1, fun p p0 p1 => ?_, fun l l0 l1 => ?_, y3.2⟩
                · obtain ⟨z1, z2, z3, z4⟩ := y2 p p0 p1
                  refine ⟨by rw [vne _ _ (by decide)]; exact z1, by rw [vne _ _ (by decide)]; exact z2, fun j j0 j1 => ?_, fun k k0 k1 => by rw [vne _ _ (by decide)]; exact z4 k k0 k1⟩
                  rw [v71, if_neg (by omega)]; exact z3 j j0 j1
                · rw [vne _ _ (by decide), vne _ _ (by decide)]; exact y3.1 l l0 l1
              · rw [vne _ _ (by decide), f2.v (tWs_no _ rfl), f1.v (tWs_no _ rfl)]; exact h81
              · rw [vne _ _ (by decide), f2.v (tWs_no _ rfl), f1.v (tWs_no _ rfl)]; exact h73
              · rw [v71]
                unfold fup
                by_cases e : 3 * n_p s + j = 3 * n_p s + ftT t2
                · rw [if_pos e, if_pos e]
                · rw [if_neg e, if_neg e, f2.v (tWs_no _ rfl), f1.v (tWs_no _ rfl)]; exact h71 j j0 j1
              · unfold fup
                rw [if_neg (by omega)]
                exact hf j hj
          exact ⟨fun c2 => told 9 (by rw [if_neg c2]), fun c2 => told 5 (by rw [if_pos c2])⟩
        · rw [if_pos c1] at hx
          rw [hT.2.1]
          refine tC.V (pX6_fail0 hm.S h0 (by decide)) (fun m' fm' hb => ?_)
          refine uX6_readPlace_168 (by omega) (hm.tr fm' (tWs_sub rfl)) ⟨fun c => by have := hb.1; have := hb.2.1; omega, fun _ => ?_⟩
          rw [hx]; exact hb
  refine t_of (uX6_readPlace_0 (by omega) (tFr.rf hs) ?_)
  refine tC.V (pX6_nextK (by omega) hs h) (fun m1 f1 ho1 => ?_)
  rw [et1] at ho1
  have F1 : tFr wX6_readPlace μ m1 := (tFr.rf hs).tr f1 (tWs_sub rfl)
  have in1 := inT_F f1 inW_next hi
  have h0 := ho1.1.2.1
  have hT := ho1.1.2.2.1
  refine ⟨fun c => ?_, fun c => ?_⟩
  · have hnm := (isName_T hT).mp c
    have en := named_T hT hnm.1 in1 hnp.1
    refine uX6_readPlace_15 (by omega) F1 ⟨fun c => absurd h0 c, fun _ => ⟨by rw [in1.1.1]; exact hnp, fun c1 => ?_, fun c1 => ?_⟩⟩
    · rw [en] at c1
      refine uX6_readPlace_38 (by omega) F1 ⟨fun c => absurd h0 c, fun _ => ⟨fun c2 => ?_, fun c2 => ?_⟩⟩
      · rw [in1.1.1] at c2
        refine uX6_readPlace_64 (by omega) F1 ⟨fun _ => ?_, fun c => by omega⟩
        rw [in1.1.1]
        rintro _ rfl
        rw [w32_id (x := 3 * n_p s) (by omega) (by omega), w32_id (x := 3 * n_p s + 1) (by omega) (by omega), w32_id (x := 3 * n_p s + 2) (by omega) (by omega), (hT.2.2.2.1 hnm.1).2]
        refine ⟨by omega, fun m2 e2 => ⟨by omega, fun m3 e3 => ⟨by omega, fun m4 e4 => ⟨by omega, fun m5 e5 m6 e6 => ?_⟩⟩⟩⟩
        have F2 : tFr wX6_readPlace μ m2 := by rw [e2]; exact F1.w (tWs_in _ rfl) (tS_w F1.S sf_81 _ _)
        have F3 : tFr wX6_readPlace μ m3 := by rw [e3]; exact F2.w (tWs_in _ rfl) (tS_w F2.S sf_71 _ _)
        have F4 : tFr wX6_readPlace μ m4 := by rw [e4]; exact F3.w (tWs_in _ rfl) (tS_w F3.S sf_71 _ _)
        have F5 : tFr wX6_readPlace μ m5 := by rw [e5]; exact F4.w (tWs_in _ rfl) (tS_w F4.S sf_71 _ _)
        have F6 : tFr wX6_readPlace μ m6 := by rw [e6]; exact F5.w (tWs_in _ rfl) (tS_w F5.S sf_73 _ _)
        have v65 : ∀ j, tm_v m6 65 j = tm_v m1 65 j := fun j => by rw [e6, e5, e4, e3, e2]; simp [tm_vw]
        have vo : ∀ a j, a ≠ 71 → a ≠ 73 → a ≠ 81 → tm_v m6 a j = tm_v m1 a j := fun a j h1 h2 h3 => by rw [e6, e5, e4, e3, e2]; simp [tm_vw, h1, h2, h3]
        have v81 : ∀ j, tm_v m6 81 j = if j = n_p s then kva t1 else tm_v m1 81 j := fun j => by rw [e6, e5, e4, e3, e2]; simp [tm_vw]
        have v73 : ∀ j, tm_v m6 73 j = if j = n_p s then 0 else tm_v m1 73 j := fun j => by rw [e6, e5, e4, e3, e2]; simp [tm_vw]
        have v71 : ∀ j, tm_v m6 71 j = fup (fup (fup (tm_v m1 71) (3 * n_p s) 0) (3 * n_p s + 1) 1) (3 * n_p s + 2) 1 j := fun j => by rw [e6, e5, e4, e3, e2]; simp [tm_vw, fup]
        have ok6 : okP tx n m6 t1 := by
          obtain ⟨⟨⟨x1, x2⟩, x3, x4⟩, x5, x6, x7, x8⟩ := ho1.1
          refine ⟨⟨⟨fun k => by rw [vo _ _ (by decide) (by decide) (by decide)]; exact x1 k, by rw [v65]; exact x2⟩, by rw [v65]; exact x3, ?_⟩, by rw [v65]; exact x5, ?_, x7, x8⟩
          · rw [← x4]; funext k; unfold y_tx; rw [vo _ _ (by decide) (by decide) (by decide)]
          · unfold hasT at *; simp only [v65]; exact x6
        have in6 : inT m6 s := by
          unfold inT at in1 ⊢
          obtain ⟨y1, y2, y3⟩ := in1
          simp only [v65]
          refine ⟨y1, fun p p0 p1 => ?_, fun l l0 l1 => ?_, y3.2⟩
          · obtain ⟨z1, z2, z3, z4⟩ := y2 p p0 p1
            refine ⟨by rw [v81, if_neg (by omega)]; exact z1, by rw [v73, if_neg (by omega)]; exact z2, fun j j0 j1 => ?_, fun k k0 k1 => by rw [vo _ _ (by decide) (by decide) (by decide)]; exact z4 k k0 k1⟩
            rw [v71]
            unfold fup
            rw [if_neg (by omega), if_neg (by omega), if_neg (by omega)]
            exact z3 j j0 j1
          · rw [vo _ _ (by decide) (by decide) (by decide), vo _ _ (by decide) (by decide) (by decide)]; exact y3.1 l l0 l1
        refine tC.V (pX6_nextK (by omega) F6.S ok6) (fun m7 f7 ho7 => ?_)
        have F7 := F6.tr f7 (tWs_sub rfl)
        refine loop hnm c1 (by omega) 4 (fun _ => 0) (fup (fup (fup (n_f s) (3 * n_p s) 0) (3 * n_p s + 1) 1) (3 * n_p s + 2) 1) 0 (tok tx n (ken t1)) m7 (by omega) (fun j hj => ?_) (fun j j0 j1 => Or.inl rfl) (by omega) F7 ho7.1 (inT_F f7 inW_next in6) ?_ ?_ (fun j j0 j1 => ?_) (fun j hj => ?_) ?_
        · rw [Nat.zero_div]; rfl
        · rw [f7.v (tWs_no _ rfl), v81, if_pos rfl]
        · rw [f7.v (tWs_no _ rfl), v73, if_pos rfl]
        · rw [f7.v (tWs_no _ rfl), v71]
          unfold fup
          by_cases a1 : j = 2
          · rw [if_pos (by omega), if_pos (by omega)]
          · by_cases a2 : j = 1
            · rw [if_neg (by omega), if_pos (by omega), if_neg (by omega), if_pos (by omega)]
            · rw [if_neg (by omega), if_neg (by omega), if_pos (by omega), if_neg (by omega), if_neg (by omega), if_pos (by omega)]
        · unfold fup
          rw [if_neg (by omega), if_neg (by omega), if_neg (by omega)]
        · unfold p_pl
          rw [if_neg (fun q => q hnm), if_neg (by omega), if_neg c2]
          rfl
      · rw [in1.1.1] at c2
        rw [hT.2.1]
        refine tC.V (pX6_fail0 F1.S h0 (by decide)) (fun m' fm' hb => ?_)
        refine b64 m' _ (F1.tr fm' (tWs_sub rfl)) hb ?_
        unfold p_pl
        rw [if_neg (fun q => q hnm), if_neg (by omega), if_pos c2]
    · rw [en] at c1
      rw [hT.2.1]
      refine tC.V (pX6_fail0 F1.S h0 (by decide)) (fun m' fm' hb => ?_)
      refine b38 m' _ (F1.tr fm' (tWs_sub rfl)) hb ?_
      unfold p_pl
      rw [if_neg (fun q => q hnm), if_pos c1]
  · have hnm : ¬ nmT t1 := fun q => c ((isName_T hT).mpr q)
    refine tC.V (pX6_wrong0 (by omega) F1.S h0 hT) (fun m' fm' hb => ?_)
    refine b15 m' _ (F1.tr fm' (tWs_sub rfl)) hb ?_
    unfold p_pl
    rw [if_pos hnm]
end C7F
