/-! CONTRACTS of the component: when two meet -/
section C0G
variable {d : Nat} {μ μ0 ν : tm_M} {W : Int → Int → Prop} {a x p dn md : Int}
theorem vStep.mono {y w : Int} {K K' : Int → tm_M → Prop} (h : vStep d y w μ K) (hk : ∀ r, K r μ → K' r μ) : vStep d y w μ K' := by
  obtain ⟨h1, h⟩ := h
  refine ⟨h1, ?_⟩
  rcases h with ⟨k, c⟩ | ⟨k, c⟩ | ⟨k, c⟩
  · exact Or.inl ⟨k, tC.I c (fun r m fm q => by have em := fm.same; subst em; exact hk r q)⟩
  · exact Or.inr (Or.inl ⟨k, tC.I c (fun r m fm q => by have em := fm.same; subst em; exact hk r q)⟩)
  · exact Or.inr (Or.inr ⟨k, tC.I c (fun r m fm q => by have em := fm.same; subst em; exact hk r q)⟩)
theorem wkr_F {m : tm_M} (hJ : JU μ0 ν) (hs : tFr W μ0 μ) (hT : y_TC (c_FA μ0) W) (hC : y_VC W) : wkr μ ν m a x p dn md ↔ wkr μ0 ν m a x p dn md := by
  unfold wkr; rw [c_W_F hs hC, c_P_F hJ hs hT]
theorem pW_stepF (hd : 1 ≤ d) (hs : tFr W μ0 μ) (hT : y_TC (c_FA μ0) W) (hC : y_VC W) (hJ : JU μ0 ν) (hV : JV μ0 ν) (ha : 7 ≤ a ∧ a ≤ 9) (hx : y_v ν x) (hp : y_p ν p) (hn : 0 ≤ dn ∧ dn ≤ 1000000) (hm : 0 ≤ md ∧ md ≤ 2) (hw : wkr μ0 ν μ a x p dn md) : vStep d (c_W μ0 x) a μ (fun r _ => r = y_stp ν x p dn md) := by
  have := pW_step hd hs.S (JU_F hJ hs hT) (JV_F hJ hV hs hT hC) ha hx hp hn hm ((wkr_F hJ hs hT hC).mpr hw)
  rw [c_W_F hs hC] at this
  exact this
theorem pX3_nextF (hd : 2 ≤ d) (hs : tFr W μ0 μ) (hT : y_TC (c_FA μ0) W) (hC : y_VC W) (hJ : JU μ0 ν) (hV : JV μ0 ν) (ha : 7 ≤ a ∧ a ≤ 9) (hx : y_v ν x) (hp : y_p ν p) (hn : 0 ≤ dn ∧ dn ≤ 1000000) (hm : 0 ≤ md ∧ md ≤ 2) (hw : wkr μ0 ν μ a x p dn md) : cR (tWs [a] []) mX3_next d [(2, a)] μ (fun r m => r = c_P μ0 (y_go ν p (y_stp ν x p dn md)) ∧ wkr μ0 ν m a x p (dn + 1) (y_md ν x p md)) := by
  refine tC.R (pX3_next hd hs.S (JU_F hJ hs hT) (JV_F hJ hV hs hT hC) ha hx hp hn hm ((wkr_F hJ hs hT hC).mpr hw)) (fun r m fm hr => ?_)
  rw [c_P_F hJ hs hT, wkr_F hJ hs hT hC] at hr
  exact hr
/-- who walks stays, but where it is -/
theorem wkr_w {m : tm_M} {q : Int} (h : wkr μ ν m a x p dn md) : wkr μ ν (tm_w m a 1 (c_P μ q)) a x q dn md := by
  obtain ⟨h1, h2, h3, h4⟩ := h
  exact ⟨by simp [tm_vw]; exact h1, by simp [tm_vw], by simp [tm_vw]; exact h3, by simp [tm_vw]; exact h4⟩
theorem wkr_o {m m' : tm_M} (h : wkr μ ν m a x p dn md) (e : ∀ j, tm_v m' a j = tm_v m a j) : wkr μ ν m' a x p dn md := by
  obtain ⟨h1, h2, h3, h4⟩ := h
  exact ⟨by rw [e]; exact h1, by rw [e]; exact h2, by rw [e]; exact h3, by rw [e]; exact h4⟩
/-- the cells hold a state of a walk -/
def repW (μ ν : tm_M) (w v : Int) (s : WS) (m : tm_M) : Prop := wkr μ ν m 7 w s.pa s.da s.ma ∧ wkr μ ν m 8 v s.pb s.db s.mb ∧ ∀ q, 0 ≤ q → q < 8 → tm_v m 10 q = s.lf q
theorem pX0_meet {w v b : Int} (hd : 4 ≤ d) (hs : tS μ) (hJ : JU μ ν) (hV : JV μ ν) (hmk : tm_v μ 1 13 = tm_v ν 65 30) (hw : y_v ν w) (hv : y_v ν v) (ha : y_p ν a) (hb : y_p ν b) : cI (tWf [7, 8, 10] [] (c_FA μ)) mX0_meet d [(2, 1), (0, w), (0, v), (0, a), (0, b)] μ (fun r _ => r = y_walk ν w v a b) := by
  have hf : dyA (c_FA μ) ∧ tm_k μ (c_FA μ) = 20 := ⟨hJ.FA.1.2, hJ.FA.1.1.2⟩
  have hT : y_TC (c_FA μ) (tWf [7, 8, 10] [] (c_FA μ)) := tWf_TC hf.1 ⟨rfl, rfl⟩
  have hC : y_VC (tWf [7, 8, 10] [] (c_FA μ)) := tWf_VC hf rfl
  have hsl := hJ.1.2.2.2.2.1
  have hhe := hJ.1.2.2.2.2.2.1
  have e4 : tm_v μ (tm_v μ 1 8) 4 = tm_v ν 65 24 := hJ.2.2.1.2.2.1
  have e5 : tm_v μ (tm_v μ 1 8) 5 = tm_v ν 65 25 := hJ.2.2.1.2.2.2.1
  have e7 : tm_v μ (tm_v μ 1 8) 7 = c_FA μ := rfl
  have eT : tm_v μ 1 8 = c_T μ := rfl
  have nF : tm_n μ (c_FA μ) = 8 := hJ.FA.2
  have nP : tm_n μ (tm_v μ (tm_v μ 1 8) 0) = 8 := hJ.PA.2
  have eP : ∀ k, tm_v μ (tm_v μ (tm_v μ 1 8) 0) k = c_P μ k := fun k => rfl
  have w12 := hw.1.1
  have s7 : ∀ j, ¬ tWs [8] [] 7 j := fun j => tWs_no j rfl
  have ne7 : (7 : Int) ≠ c_FA μ := fun e => by have := hf.1; unfold dyA at this; omega
  have ne8 : (8 : Int) ≠ c_FA μ := fun e => by have := hf.1; unfold dyA at this; omega
  have ne10 : (10 : Int) ≠ c_FA μ := fun e => by have := hf.1; unfold dyA at this; omega
  have wj : ∀ {m : tm_M} {c j y : Int}, tFr (tWf [7, 8, 10] [] (c_FA μ)) μ m → (c = 7 ∨ c = 8 ∨ c = 10) → tFr (tWf [7, 8, 10] [] (c_FA μ)) μ (tm_w m c j y) := by
    intro m c j y h hc
    rcases hc with rfl | rfl | rfl
    · exact h.w (Or.inl (tWs_in _ rfl)) (tS_w h.S sf_7 _ _)
    · exact h.w (Or.inl (tWs_in _ rfl)) (tS_w h.S sf_8 _ _)
    · exact h.w (Or.inl (tWs_in _ rfl)) (tS_w h.S sf_10 _ _)
  have ticks : ∀ (n : Nat) (t : Int) (s : WS) (m : tm_M), 0 ≤ t → t + n = 200 → tFr (tWf [7, 8, 10] [] (c_FA μ)) μ m → s.ok ν t → repW μ ν w v s m → hI (tWf [7, 8, 10] [] (c_FA μ)) μ mX0_meet d (fun r _ => r = y_run ν w v n t s) 80 [(0, 2, 1), (5, 0, t)] [] m := by
    intro n
    induction n with
    | zero =>
      intro t s m t0 ht hm hk hr
      exact uX0_meet_80 (by omega) hf hm ⟨fun c => rfl, fun c => by omega⟩
    | succ n ih =>
      intro t s m t0 ht hm hk hr
      have hk2 := y_tick_ok hw hv hk
      obtain ⟨k1, k2, k3, k4, k5, k6, k7⟩ := hk
      obtain ⟨r7, r8, r10⟩ := hr
      have a8 := y_p8 k1
      have b8 := y_p8 k2
      have pA := hJ.P k1
      have pB := hJ.P k2
      have et : w32 (t + 1) = t + 1 := w32_id (by omega) (by omega)
      have etm : t.tmod (tm_v ν 65 24) = t % tm_v ν 65 24 := Int.tmod_eq_emod_of_nonneg t0
      have sa := y_stp_in hw k1 k3.1 k5
      have sb := y_stp_in hv k2 k4.1 k6
      -- the end of a tick
      have fin : ∀ m', tFr (tWf [7, 8, 10] [] (c_FA μ)) μ m' → repW μ ν w v (y_tick ν w v t s) m' → hI (tWf [7, 8, 10] [] (c_FA μ)) μ mX0_meet d (fun r _ => r = y_run ν w v (n + 1) t s) 328 [(0, 2, 1), (5, 0, t), (6, 2, c_P μ s.pa), (7, 2, c_P μ s.pb)] [] m' := by
        intro m' hm' hr'
        refine uX0_meet_328 (ν := ν) (by omega) hf hm' ⟨hJ, ?_⟩
        rw [hr'.1.2.1, hr'.2.1.2.1, et]
        have inj : ∀ {q q' : Int}, y_p ν q → y_p ν q' → (c_P μ q = c_P μ q' ↔ q = q') := fun h h' => ⟨hJ.inj h h', fun e => by rw [e]⟩
        rw [inj hk2.1 hk2.2.1, inj hk2.1 k2, inj hk2.2.1 k1]
        refine ⟨fun c => ?_, fun c => ?_⟩
        · rw [y_run, if_neg (show ¬ y_met ν (y_tick ν w v t s).pa (y_tick ν w v t s).pb s.pa s.pb from c)]
          exact ih (t + 1) _ m' (by omega) (by omega) hm' hk2 hr'
        · rw [y_run, if_pos (show y_met ν (y_tick ν w v t s).pa (y_tick ν w v t s).pb s.pa s.pb from c)]
      -- they walk
      have walks : ¬ y_far (y_go ν) s.pa s.pb ≤ tm_v ν 65 25 → ∀ m1, tFr (tWf [7, 8, 10] [] (c_FA μ)) μ m1 → repW μ ν w v s m1 → ∀ st, (st = 0 ↔ t % tm_v ν 65 24 = 0) → hI (tWf [7, 8, 10] [] (c_FA μ)) μ mX0_meet d (fun r _ => r = y_run ν w v (n + 1) t s) 196 [(0, 2, 1), (5, 0, t), (6, 2, c_P μ s.pa), (7, 2, c_P μ s.pb), (8, 0, st)] [] m1 := by
        intro cf m1 hm1 ⟨q7, q8, q10⟩ st hst
        have etk : y_tick ν w v t s = ws (y_go ν s.pa (y_stp ν w s.pa s.da s.ma)) (s.da + 1) (y_md ν w s.pa s.ma) (if t % tm_v ν 65 24 ≠ 0 then s.pb else if tm_v ν 65 30 ≠ 0 ∧ 0 < s.lf s.pb then y_go ν s.pb (s.lf s.pb) else y_go ν s.pb (y_stp ν v s.pb s.db s.mb)) (if t % tm_v ν 65 24 ≠ 0 then s.db else if tm_v ν 65 30 ≠ 0 ∧ 0 < s.lf s.pb then s.db else s.db + 1) (if t % tm_v ν 65 24 ≠ 0 then s.mb else if tm_v ν 65 30 ≠ 0 ∧ 0 < s.lf s.pb then s.mb else y_md ν v s.pb s.mb) (if y_go ν s.pa (y_stp ν w s.pa s.da s.ma) ≠ s.pa then fup s.lf s.pa (y_stp ν w s.pa s.da s.ma) else s.lf) := by unfold y_tick; rw [if_neg cf]
        -- behind both
        have rest : ∀ st9, st9 = (if y_go ν s.pa (y_stp ν w s.pa s.da s.ma) ≠ s.pa then y_stp ν w s.pa s.da s.ma else 0) → ∀ m4, tFr (tWf [7, 8, 10] [] (c_FA μ)) μ m4 → wkr μ ν m4 7 w (y_tick ν w v t s).pa (y_tick ν w v t s).da (y_tick ν w v t s).ma → wkr μ ν m4 8 v (y_tick ν w v t s).pb (y_tick ν w v t s).db (y_tick ν w v t s).mb → (∀ q, 0 ≤ q → q < 8 → tm_v m4 10 q = s.lf q) → hI (tWf [7, 8, 10] [] (c_FA μ)) μ mX0_meet d (fun r _ => r = y_run ν w v (n + 1) t s) 311 [(0, 2, 1), (5, 0, t), (6, 2, c_P μ s.pa), (7, 2, c_P μ s.pb), (9, 0, st9)] [] m4 := by
          intro st9 e9 m4 f4 g7 g8 g10
          have elf : (y_tick ν w v t s).lf = if y_go ν s.pa (y_stp ν w s.pa s.da s.ma) ≠ s.pa then fup s.lf s.pa (y_stp ν w s.pa s.da s.ma) else s.lf := by rw [etk]; rfl
          refine uX0_meet_311 hf f4 ?_
          rw [pA.2.1]
          by_cases cg : y_go ν s.pa (y_stp ν w s.pa s.da s.ma) ≠ s.pa
          · have hl := y_go_left cg
            rw [if_pos cg] at e9 elf
            refine ⟨fun c => by omega, fun _ => ⟨pA.1, by omega, fun m5 e5 => fin m5 (by rw [e5]; exact wj f4 (by omega)) ⟨wkr_o g7 (fun j => by rw [e5, tm_vw, if_neg (by omega)]), wkr_o g8 (fun j => by rw [e5, tm_vw, if_neg (by omega)]), fun q q0 q1 => ?_⟩⟩⟩
            rw [e5, tm_vw, elf]
            unfold fup
            by_cases e : q = s.pa
            · rw [if_pos ⟨rfl, e⟩, if_pos e, e9]
            · rw [if_neg (fun q => e q.2), if_neg e]; exact g10 q q0 q1
          · rw [if_neg cg] at e9 elf
            refine ⟨fun _ => fin m4 f4 ⟨g7, g8, fun q q0 q1 => ?_⟩, fun c => by omega⟩
            rw [elf]; exact g10 q q0 q1
        -- the second one, by its own way
        have own : ∀ st9, st9 = (if y_go ν s.pa (y_stp ν w s.pa s.da s.ma) ≠ s.pa then y_stp ν w s.pa s.da s.ma else 0) → st = 0 → ¬ (tm_v ν 65 30 ≠ 0 ∧ 0 < s.lf s.pb) → ∀ m3, tFr (tWf [7, 8, 10] [] (c_FA μ)) μ m3 → wkr μ ν m3 7 w (y_tick ν w v t s).pa (y_tick ν w v t s).da (y_tick ν w v t s).ma → wkr μ ν m3 8 v s.pb s.db s.mb → (∀ q, 0 ≤ q → q < 8 → tm_v m3 10 q = s.lf q) → cR (tWs [8] []) mX3_next (d - 1) [(2, 8)] m3 (fun r19 μ18 => (∀ μ20, μ20 = tm_w μ18 8 1 r19 → hI (tWf [7, 8, 10] [] (c_FA μ)) μ mX0_meet d (fun r _ => r = y_run ν w v (n + 1) t s) 311 [(0, 2, 1), (5, 0, t), (6, 2, c_P μ s.pa), (7, 2, c_P μ s.pb), (9, 0, st9)] [] μ20)) := by
          intro st9 e9 h0 hmk0 m3 f3 g7 g8 g10
          refine tC.R (pX3_nextF (by omega) f3 hT hC hJ hV (by decide) hv k2 (by omega) k6 g8) (fun r m4 f4 hr m5 e5 => ?_)
          have F4 := f3.tr f4 (tWf_subL rfl)
          rw [hr.1] at e5
          have epb : (y_tick ν w v t s).pb = y_go ν s.pb (y_stp ν v s.pb s.db s.mb) := by rw [etk]; simp only [ws_pb]; rw [if_neg (fun q => q (hst.mp h0)), if_neg hmk0]
          have edb : (y_tick ν w v t s).db = s.db + 1 := by rw [etk]; simp only [ws_db]; rw [if_neg (fun q => q (hst.mp h0)), if_neg hmk0]
          have emb : (y_tick ν w v t s).mb = y_md ν v s.pb s.mb := by rw [etk]; simp only [ws_mb]; rw [if_neg (fun q => q (hst.mp h0)), if_neg hmk0]
          refine rest st9 e9 m5 (by rw [e5]; exact wj F4 (by omega)) (wkr_o g7 (fun j => by rw [e5, tm_vw, if_neg (by omega)]; exact f4.v (tWs_no _ rfl))) ?_ (fun q q0 q1 => by rw [e5, tm_vw, if_neg (by omega), f4.v (tWs_no _ rfl)]; exact g10 q q0 q1)
          rw [epb, edb, emb, e5]
          exact wkr_w hr.2
        have stays : st ≠ 0 → (y_tick ν w v t s).pb = s.pb ∧ (y_tick ν w v t s).db = s.db ∧ (y_tick ν w v t s).mb = s.mb := by
          intro h
          have h' : t % tm_v ν 65 24 ≠ 0 := fun q => h (hst.mpr q)
          rw [etk]
          simp only [ws_pb, ws_db, ws_mb]
          rw [if_pos h', if_pos h', if_pos h']
          exact ⟨rfl, rfl, rfl⟩
        have first : ∀ m3, (∃ m2, tFr (tWs [7] []) m1 m2 ∧ wkr μ ν m2 7 w s.pa (s.da + 1) (y_md ν w s.pa s.ma) ∧ m3 = tm_w m2 7 1 (c_P μ (y_go ν s.pa (y_stp ν w s.pa s.da s.ma)))) → tFr (tWf [7, 8, 10] [] (c_FA μ)) μ m3 ∧ wkr μ ν m3 7 w (y_tick ν w v t s).pa (y_tick ν w v t s).da (y_tick ν w v t s).ma ∧ wkr μ ν m3 8 v s.pb s.db s.mb ∧ (∀ q, 0 ≤ q → q < 8 → tm_v m3 10 q = s.lf q) := by
          rintro m3 ⟨m2, f2, g2, e3⟩
          have F2 := hm1.tr f2 (tWf_subL rfl)
          refine ⟨by rw [e3]; exact wj F2 (by omega), ?_, wkr_o q8 (fun j => by rw [e3, tm_vw, if_neg (by omega)]; exact f2.v (tWs_no _ rfl)), fun q q0 q1 => by rw [e3, tm_vw, if_neg (by omega), f2.v (tWs_no _ rfl)]; exact q10 q q0 q1⟩
          rw [etk, e3]
          exact wkr_w g2
        -- all that a first step leads to
        have both : ∀ st9, st9 = (if y_go ν s.pa (y_stp ν w s.pa s.da s.ma) ≠ s.pa then y_stp ν w s.pa s.da s.ma else 0) → ((tm_v μ 1 13 = 0 → cR (tWs [7] []) mX3_next (d - 1) [(2, 7)] m1 (fun r12 μ11 => (∀ μ13, μ13 = tm_w μ11 7 1 r12 → (st ≠ 0 → hI (tWf [7, 8, 10] [] (c_FA μ)) μ mX0_meet d (fun r _ => r = y_run ν w v (n + 1) t s) 311 [(0, 2, 1), (5, 0, t), (6, 2, c_P μ s.pa), (7, 2, c_P μ s.pb), (9, 0, st9)] [] μ13) ∧ (st = 0 → cR (tWs [8] []) mX3_next (d - 1) [(2, 8)] μ13 (fun r19 μ18 => (∀ μ20, μ20 = tm_w μ18 8 1 r19 → hI (tWf [7, 8, 10] [] (c_FA μ)) μ mX0_meet d (fun r _ => r = y_run ν w v (n + 1) t s) 311 [(0, 2, 1), (5, 0, t), (6, 2, c_P μ s.pa), (7, 2, c_P μ s.pb), (9, 0, st9)] [] μ20)))))) ∧ (tm_v μ 1 13 ≠ 0 → (ob μ (c_P μ s.pb) 7) ∧ ((0 ≤ s.pb ∧ s.pb < 8) ∧ ((∀ x23, x23 = tm_v m1 10 s.pb → cR (tWs [7] []) mX3_next (d - 1) [(2, 7)] m1 (fun r25 μ24 => (∀ μ26, μ26 = tm_w μ24 7 1 r25 → (st ≠ 0 → hI (tWf [7, 8, 10] [] (c_FA μ)) μ mX0_meet d (fun r _ => r = y_run ν w v (n + 1) t s) 311 [(0, 2, 1), (5, 0, t), (6, 2, c_P μ s.pa), (7, 2, c_P μ s.pb), (9, 0, st9)] [] μ26) ∧ (st = 0 → (x23 ≤ 0 → cR (tWs [8] []) mX3_next (d - 1) [(2, 8)] μ26 (fun r32 μ31 => (∀ μ33, μ33 = tm_w μ31 8 1 r32 → hI (tWf [7, 8, 10] [] (c_FA μ)) μ mX0_meet d (fun r _ => r = y_run ν w v (n + 1) t s) 311 [(0, 2, 1), (5, 0, t), (6, 2, c_P μ s.pa), (7, 2, c_P μ s.pb), (9, 0, st9)] [] μ33))) ∧ (0 < x23 → (JU μ ν ∧ isP μ ν (c_P μ s.pb)) ∧ ((∀ μ35, μ35 = tm_w μ26 8 1 (c_P μ (y_go ν s.pb x23)) → hI (tWf [7, 8, 10] [] (c_FA μ)) μ mX0_meet d (fun r _ => r = y_run ν w v (n + 1) t s) 311 [(0, 2, 1), (5, 0, t), (6, 2, c_P μ s.pa), (7, 2, c_P μ s.pb), (9, 0, st9)] [] μ35))))))))))) := by
          intro st9 e9
          have nx := pX3_nextF (d := d - 1) (by omega) hm1 hT hC hJ hV (by decide) hw k1 (by omega) k5 q7
          refine ⟨fun c => tC.R nx (fun r m2 f2 hr m3 e3 => ?_), fun c => ⟨pB.1, b8, fun y ey => tC.R nx (fun r m2 f2 hr m3 e3 => ?_)⟩⟩
          · rw [hr.1] at e3
            obtain ⟨F3, g7, g8, g10⟩ := first m3 ⟨m2, f2, hr.2, e3⟩
            refine ⟨fun h => ?_, fun h => own st9 e9 h (fun q => by rw [hmk] at c; exact q.1 c) m3 F3 g7 g8 g10⟩
            obtain ⟨z1, z2, z3⟩ := stays h
            exact rest st9 e9 m3 F3 g7 (by rw [z1, z2, z3]; exact g8) g10
          · rw [hr.1] at e3
            obtain ⟨F3, g7, g8, g10⟩ := first m3 ⟨m2, f2, hr.2, e3⟩
            rw [q10 s.pb b8.1 b8.2] at ey
            refine ⟨fun h => ?_, fun h => ⟨fun h2 => own st9 e9 h (fun q => by omega) m3 F3 g7 g8 g10, fun h2 => ⟨⟨hJ, s.pb, k2, rfl⟩, fun m4 e4 => ?_⟩⟩⟩
            · obtain ⟨z1, z2, z3⟩ := stays h
              exact rest st9 e9 m3 F3 g7 (by rw [z1, z2, z3]; exact g8) g10
            · have hm0 : tm_v ν 65 30 ≠ 0 ∧ 0 < s.lf s.pb := ⟨by rw [← hmk]; exact c, by omega⟩
              have epb : (y_tick ν w v t s).pb = y_go ν s.pb (s.lf s.pb) := by rw [etk]; simp only [ws_pb]; rw [if_neg (fun q => q (hst.mp h)), if_pos hm0]
              have edb : (y_tick ν w v t s).db = s.db := by rw [etk]; simp only [ws_db]; rw [if_neg (fun q => q (hst.mp h)), if_pos hm0]
              have emb : (y_tick ν w v t s).mb = s.mb := by rw [etk]; simp only [ws_mb]; rw [if_neg (fun q => q (hst.mp h)), if_pos hm0]
              refine rest st9 e9 m4 (by rw [e4]; exact wj F3 (by omega)) (wkr_o g7 (fun j => by rw [e4, tm_vw, if_neg (by omega)])) ?_ (fun q q0 q1 => by rw [e4, tm_vw, if_neg (by omega)]; exact g10 q q0 q1)
              rw [epb, edb, emb, e4, ey]
              exact wkr_w g8
        have stp := pW_stepF (d := d - 1) (by omega) hm1 hT hC hJ hV (by decide) hw k1 (by omega) k5 q7
        refine uX0_meet_196 (ν := ν) (by omega) hf hm1 ?_
        rw [q7.1, pA.2.1, pB.2.1]
        refine vStep.mono stp (fun r hr => ⟨pA.1, ⟨hJ, s.pa, k1, rfl⟩, fun c => ?_, fun c => ?_⟩)
        · rw [hr] at c
          rw [q7.1]
          refine vStep.mono stp (fun r' hr' => ?_)
          rw [hr']
          exact both _ (by rw [if_pos (fun q => c (by rw [q]))])
        · rw [hr] at c
          exact both _ (by rw [if_neg (fun q => q (hJ.inj (y_go_p k1) k1 c))])
      refine uX0_meet_80 (by omega) hf hm ⟨fun c => by omega, fun _ => ?_⟩
      rw [r7.2.1, r8.2.1, e4, e5, e7, nF, etm]
      rintro _ rfl _ rfl
      rw [pB.2.1]
      have spread : ∀ (K' : tm_M → Prop), (∀ m9, tFr (tWf [7, 8, 10] [] (c_FA μ)) μ m9 → repW μ ν w v s m9 → (∀ q, y_p ν q → tm_v m9 (c_FA μ) q = spr ν s.pa q) → K' m9) → cV (tWf [] [] (c_FA μ)) mX4_spread (d - 1) [(2, tm_v μ 1 8), (2, c_P μ s.pa)] m K' := by
        intro K' hK
        have h0 := pX4_spread (d := d - 1) (a := s.pa) (by omega) hm.S (JU_F hJ hm hT) k1
        rw [c_FA_F hJ hm hT, c_T_F hm hT, c_P_F hJ hm hT] at h0
        refine tC.V h0 (fun m9 f9 h9 => hK m9 (hm.tr f9 (tWf_sub rfl)) ⟨wkr_o r7 (fun j => f9.v (fun q => by rcases q with q | q; exact tWs_none _ _ q; exact ne7 q)), wkr_o r8 (fun j => f9.v (fun q => by rcases q with q | q; exact tWs_none _ _ q; exact ne8 q)), fun q q0 q1 => by rw [f9.v (fun q => by rcases q with q | q; exact tWs_none _ _ q; exact ne10 q)]; exact r10 q q0 q1⟩ (fun q hq => ?_))
        rw [h9 q hq]
      have fi := y_far_in (g := y_go ν) (a := s.pa) s.pb
      have spe : spr ν s.pa s.pb = if y_far (y_go ν) s.pa s.pb = 100 then -1 else y_far (y_go ν) s.pa s.pb := rfl
      refine ⟨hJ.T, by omega, fun c => spread _ (fun m9 f9 r9 h9 => ⟨pB.1, hJ.FA.1, by omega, ?_⟩), fun c => spread _ (fun m9 f9 r9 h9 => ⟨pB.1, hJ.FA.1, by omega, ?_⟩)⟩
      · rw [h9 _ k2, spe]
        refine ⟨fun c2 => walks (by split at c2 <;> omega) m9 f9 r9 0 ⟨fun _ => c, fun _ => rfl⟩, fun c2 => ⟨fun c3 => walks (by split at c3 <;> omega) m9 f9 r9 0 ⟨fun _ => c, fun _ => rfl⟩, fun c3 => ?_⟩⟩
        have cf : y_far (y_go ν) s.pa s.pb ≤ tm_v ν 65 25 := by split at c2 <;> split at c3 <;> omega
        have h0 := pX0_nearer0 (d := d - 1) (k := s.pb) (a := s.pa) (by omega) f9.S (JU_F hJ f9 hT) k2 (fun q hq => by rw [c_FA_F hJ f9 hT]; exact h9 q hq) (by rw [spe]; exact c2)
        rw [c_P_F hJ f9 hT, c_P_F hJ f9 hT] at h0
        refine tC.R h0 (fun r m10 f10 hr m11 e11 => ?_)
        have em := f10.same
        subst em
        have etk : y_tick ν w v t s = ws s.pa s.da s.ma (y_nearer ν (y_far (y_go ν) s.pa) s.pb) s.db s.mb s.lf := by unfold y_tick; rw [if_pos cf, if_pos c]
        refine fin m11 (by rw [e11]; exact wj f9 (by omega)) ?_
        rw [etk, e11, hr]
        exact ⟨wkr_o r9.1 (fun j => by rw [tm_vw, if_neg (by omega)]), wkr_w r9.2.1, fun q q0 q1 => by rw [tm_vw, if_neg (by omega)]; exact r9.2.2 q q0 q1⟩
      · rw [h9 _ k2, spe]
        refine ⟨fun c2 => walks (by split at c2 <;> omega) m9 f9 r9 1 ⟨fun h => absurd h (by decide), fun h => absurd h c⟩, fun c2 => ⟨fun c3 => walks (by split at c3 <;> omega) m9 f9 r9 1 ⟨fun h => absurd h (by decide), fun h => absurd h c⟩, fun c3 => ?_⟩⟩
        have cf : y_far (y_go ν) s.pa s.pb ≤ tm_v ν 65 25 := by split at c2 <;> split at c3 <;> omega
        have etk : y_tick ν w v t s = ws s.pa s.da s.ma s.pb s.db s.mb s.lf := by unfold y_tick; rw [if_pos cf, if_neg c]
        refine fin m9 f9 ?_
        rw [etk]
        exact r9
  have zero : ∀ (n : Nat) (k : Int) (m : tm_M), 0 ≤ k → k + n = 8 → tFr (tWf [7, 8, 10] [] (c_FA μ)) μ m → wkr μ ν m 7 w a 0 0 → wkr μ ν m 8 v b 0 0 → (∀ j, 0 ≤ j → j < k → tm_v m 10 j = 0) → hI (tWf [7, 8, 10] [] (c_FA μ)) μ mX0_meet d (fun r _ => r = y_walk ν w v a b) 48 [(0, 2, 1), (3, 0, a), (4, 0, b), (5, 0, k)] [] m := by
    intro n
    induction n with
    | zero =>
      intro k m k0 kn hm g7 g8 g10
      refine uX0_meet_48 hf hm ⟨fun _ => ⟨fun c => ?_, fun c => ?_⟩, fun c => by omega⟩
      · unfold y_walk
        rw [if_neg c]
        exact ticks 200 0 (y_ws0 a b) m (by omega) (by omega) hm ⟨ha, hb, ⟨Int.le_refl _, Int.le_refl _⟩, ⟨Int.le_refl _, Int.le_refl _⟩, ⟨Int.le_refl _, show (0 : Int) ≤ 2 by decide⟩, ⟨Int.le_refl _, show (0 : Int) ≤ 2 by decide⟩, fun q _ _ => Or.inl rfl⟩ ⟨g7, g8, fun q q0 q1 => g10 q q0 (by omega)⟩
      · unfold y_walk
        rw [if_pos c]
    | succ n ih =>
      intro k m k0 kn hm g7 g8 g10
      refine uX0_meet_48 hf hm ⟨fun c => by omega, fun _ => ⟨by omega, fun m' e' => ?_⟩⟩
      rw [w32_id (x := k + 1) (by omega) (by omega)]
      refine ih (k + 1) m' (by omega) (by omega) (by rw [e']; exact wj hm (by omega)) (wkr_o g7 (fun j => by rw [e', tm_vw, if_neg (by omega)])) (wkr_o g8 (fun j => by rw [e', tm_vw, if_neg (by omega)])) (fun j j0 j1 => ?_)
      rw [e', tm_vw]
      by_cases e : j = k
      · rw [if_pos ⟨rfl, e⟩]
      · rw [if_neg (fun q => e q.2)]; exact g10 j j0 (by omega)
  have a8 := y_p8 ha
  have b8 := y_p8 hb
  have cd0 : ∀ y, y_v ν y → c_d ν y 0 = 0 := fun y hy => by unfold c_d; split; exact Int.zero_emod _; rfl
  refine t_of (uX0_meet_0 (by omega) hf (tFr.rf hs) ⟨⟨hw.2.1, by have := hw.2; omega⟩, hJ.T, hJ.PA.1, ⟨a8.1, by rw [nP]; omega⟩, ?_⟩)
  refine tC.V (pX3_begin hs (by decide)) (fun m1 f1 e1 => ⟨⟨hv.2.1, by have := hv.2; omega⟩, ⟨b8.1, by rw [nP]; omega⟩, ?_⟩)
  refine tC.V (pX3_begin f1.S (by decide)) (fun m2 f2 e2 => ?_)
  have F2 : tFr (tWf [7, 8, 10] [] (c_FA μ)) μ m2 := ((tFr.rf hs).tr f1 (tWf_subL rfl)).tr f2 (tWf_subL rfl)
  refine zero 8 0 m2 (by omega) (by omega) F2 ⟨?_, ?_, ?_, ?_⟩ ⟨?_, ?_, ?_, ?_⟩ (fun j j0 j1 => by omega)
  · rw [e2, e1]; simp [tm_vw]; rfl
  · rw [e2, e1]; simp [tm_vw]; rfl
  · rw [cd0 w hw, e2, e1]; simp [tm_vw]
  · rw [e2, e1]; simp [tm_vw]
  · rw [e2]; simp [tm_vw]; rfl
  · rw [e2]; simp [tm_vw]; rfl
  · rw [cd0 v hv, e2]; simp [tm_vw]
  · rw [e2]; simp [tm_vw]
end C0G
