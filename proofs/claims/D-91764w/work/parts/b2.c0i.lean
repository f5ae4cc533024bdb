/-! CONTRACTS of the component: two ways for some ticks -/
section C0I
variable {d : Nat} {μ μ0 ν : tm_M} {W : Int → Int → Prop}
theorem pX0_walks {w v k t : Int} (hd : 3 ≤ d) (hs : tS μ) (hJ : JU μ ν) (hV : JV μ ν) (hw : y_v ν w) (hv : y_v ν v) (hk : 0 ≤ k ∧ k < 64) (ha : y_p ν (k / 8)) (hb : y_p ν (k % 8)) (ht : 0 ≤ t ∧ t ≤ 1000) : cI (tWs [7, 8] []) mX0_walks d [(2, 1), (0, w), (0, v), (0, k), (0, t)] μ (fun r _ => r = y_pl ν w v t.toNat (y_ws0 (k / 8) (k % 8))) := by
  have hT : y_TC (c_FA μ) (tWs [7, 8] []) := tWs_TC ⟨rfl, rfl⟩
  have hC : y_VC (tWs [7, 8] []) := tWs_VC rfl
  have nP : tm_n μ (tm_v μ (tm_v μ 1 8) 0) = 8 := hJ.PA.2
  have w12 := hw.1.1
  have inj : ∀ {q q' : Int}, y_p ν q → y_p ν q' → (c_P μ q = c_P μ q' ↔ q = q') := fun h h' => ⟨hJ.inj h h', fun e => by rw [e]⟩
  have loop : ∀ (n : Nat) (q : Int) (s : WS) (m : tm_M), 0 ≤ q → q + n = t → tFr (tWs [7, 8] []) μ m → pl_ok ν q s → wkr μ ν m 7 w s.pa s.da s.ma → wkr μ ν m 8 v s.pb s.db s.mb → hI (tWs [7, 8] []) μ mX0_walks d (fun r _ => r = y_pl ν w v n s) 53 [(0, 2, 1), (4, 0, t), (5, 0, q)] [] m := by
    intro n
    induction n with
    | zero =>
      intro q s m q0 qn hm hk g7 g8
      have pA := hJ.P hk.1
      have pB := hJ.P hk.2.1
      refine uX0_walks_53 (ν := ν) (by omega) hm ⟨fun _ => ?_, fun c => by omega⟩
      rw [g7.2.1, g8.2.1, pA.2.1, pB.2.1, w32_8 (y_p8 hk.1) (y_p8 hk.2.1)]
      exact ⟨pA.1, pB.1, rfl⟩
    | succ n ih =>
      intro q s m q0 qn hm hk g7 g8
      have hk' := y_pt_ok hw hv hk
      obtain ⟨h1, h2, h3, h4, h5, h6⟩ := hk
      refine uX0_walks_53 (ν := ν) (by omega) hm ⟨fun c => by omega, fun _ => ?_⟩
      rw [g7.2.1, g8.2.1]
      rintro _ rfl _ rfl
      refine tC.R (pX3_nextF (by omega) hm hT hC hJ hV (by decide) hw h1 (by omega) h5 g7) (fun r m2 f2 hr m3 e3 => ?_)
      rw [hr.1] at e3
      have F2 := hm.tr f2 (tWs_sub rfl)
      have F3 : tFr (tWs [7, 8] []) μ m3 := by rw [e3]; exact F2.w (tWs_in _ rfl) (tS_w F2.S sf_7 _ _)
      have g8' : wkr μ ν m3 8 v s.pb s.db s.mb := wkr_o g8 (fun j => by rw [e3, tm_vw, if_neg (by omega)]; exact f2.v (tWs_no _ rfl))
      have g7' : wkr μ ν m3 7 w (y_pt ν w v s).pa (y_pt ν w v s).da (y_pt ν w v s).ma := by rw [e3]; exact wkr_w hr.2
      refine tC.R (pX3_nextF (by omega) F3 hT hC hJ hV (by decide) hv h2 (by omega) h6 g8') (fun r m4 f4 hr4 m5 e5 => ⟨hJ, ?_⟩)
      rw [hr4.1] at e5
      have F4 := F3.tr f4 (tWs_sub rfl)
      have F5 : tFr (tWs [7, 8] []) μ m5 := by rw [e5]; exact F4.w (tWs_in _ rfl) (tS_w F4.S sf_8 _ _)
      have k7 : wkr μ ν m5 7 w (y_pt ν w v s).pa (y_pt ν w v s).da (y_pt ν w v s).ma := wkr_o g7' (fun j => by rw [e5, tm_vw, if_neg (by omega)]; exact f4.v (tWs_no _ rfl))
      have k8 : wkr μ ν m5 8 v (y_pt ν w v s).pb (y_pt ν w v s).db (y_pt ν w v s).mb := by rw [e5]; exact wkr_w hr4.2
      rw [k7.2.1, k8.2.1, inj hk'.1 hk'.2.1, inj hk'.1 h2, inj hk'.2.1 h1, w32_id (x := q + 1) (by omega) (by omega)]
      refine ⟨fun c2 => ?_, fun c2 => ?_⟩
      · rw [y_pl, if_neg (show ¬ y_met ν (y_pt ν w v s).pa (y_pt ν w v s).pb s.pa s.pb from c2)]
        exact ih (q + 1) _ m5 (by omega) (by omega) F5 hk' k7 k8
      · rw [y_pl, if_pos (show y_met ν (y_pt ν w v s).pa (y_pt ν w v s).pb s.pa s.pb from c2)]
  have etd : w32 (k.tdiv 8) = k / 8 := by rw [Int.tdiv_eq_ediv_of_nonneg hk.1, w32_id (by omega) (by omega)]
  have etm : k.tmod 8 = k % 8 := Int.tmod_eq_emod_of_nonneg hk.1
  have cd0 : ∀ y, c_d ν y 0 = 0 := fun y => by unfold c_d; split; exact Int.zero_emod _; rfl
  refine t_of (uX0_walks_0 (by omega) (tFr.rf hs) ?_)
  rw [etd, etm, nP]
  refine ⟨⟨hw.2.1, by have := hw.2; omega⟩, hJ.T, hJ.PA.1, by omega, ?_⟩
  refine tC.V (pX3_begin hs (by decide)) (fun m1 f1 e1 => ⟨⟨hv.2.1, by have := hv.2; omega⟩, by omega, ?_⟩)
  refine tC.V (pX3_begin f1.S (by decide)) (fun m2 f2 e2 => ?_)
  have F2 : tFr (tWs [7, 8] []) μ m2 := ((tFr.rf hs).tr f1 (tWs_sub rfl)).tr f2 (tWs_sub rfl)
  refine loop t.toNat 0 (y_ws0 (k / 8) (k % 8)) m2 (by omega) (by omega) F2 (pl_ok0 ha hb) ⟨?_, ?_, ?_, ?_⟩ ⟨?_, ?_, ?_, ?_⟩
  · rw [e2, e1]; simp [tm_vw]; rfl
  · rw [e2, e1]; simp [tm_vw]; rfl
  · show _ = c_d ν w 0
    rw [cd0, e2, e1]; simp [tm_vw]
  · show _ = (0 : Int)
    rw [e2, e1]; simp [tm_vw]
  · rw [e2]; simp [tm_vw]; rfl
  · rw [e2]; simp [tm_vw]; rfl
  · show _ = c_d ν v 0
    rw [cd0, e2]; simp [tm_vw]
  · show _ = (0 : Int)
    rw [e2]; simp [tm_vw]
end C0I
