/-! CONTRACTS of the model: two who walk -/
/-- where two are: place, steps done and mood of each; by which step the first one left a place (0: not) -/
def WS : Type := Int × Int × Int × Int × Int × Int × (Int → Int)
def WS.pa (s : WS) : Int := s.1
def WS.da (s : WS) : Int := s.2.1
def WS.ma (s : WS) : Int := s.2.2.1
def WS.pb (s : WS) : Int := s.2.2.2.1
def WS.db (s : WS) : Int := s.2.2.2.2.1
def WS.mb (s : WS) : Int := s.2.2.2.2.2.1
def WS.lf (s : WS) : Int → Int := s.2.2.2.2.2.2
def ws (pa da ma pb db mb : Int) (lf : Int → Int) : WS := (pa, da, ma, pb, db, mb, lf)
theorem ws_pa (pa da ma pb db mb : Int) (lf : Int → Int) : (ws pa da ma pb db mb lf).pa = pa := rfl
theorem ws_da (pa da ma pb db mb : Int) (lf : Int → Int) : (ws pa da ma pb db mb lf).da = da := rfl
theorem ws_ma (pa da ma pb db mb : Int) (lf : Int → Int) : (ws pa da ma pb db mb lf).ma = ma := rfl
theorem ws_pb (pa da ma pb db mb : Int) (lf : Int → Int) : (ws pa da ma pb db mb lf).pb = pb := rfl
theorem ws_db (pa da ma pb db mb : Int) (lf : Int → Int) : (ws pa da ma pb db mb lf).db = db := rfl
theorem ws_mb (pa da ma pb db mb : Int) (lf : Int → Int) : (ws pa da ma pb db mb lf).mb = mb := rfl
theorem ws_lf (pa da ma pb db mb : Int) (lf : Int → Int) : (ws pa da ma pb db mb lf).lf = lf := rfl
def fup (f : Int → Int) (a x : Int) : Int → Int := fun q => if q = a then x else f q
section C6F
variable {d : Nat} {μ : tm_M}
noncomputable def y_tick (μ : tm_M) (w v t : Int) (s : WS) : WS :=
  if y_far (y_go μ) s.pa s.pb ≤ tm_v μ 65 25 then
    ws s.pa s.da s.ma (if t % tm_v μ 65 24 = 0 then y_nearer μ (y_far (y_go μ) s.pa) s.pb else s.pb) s.db s.mb s.lf
  else
    ws (y_go μ s.pa (y_stp μ w s.pa s.da s.ma)) (s.da + 1) (y_md μ w s.pa s.ma)
      (if t % tm_v μ 65 24 ≠ 0 then s.pb else if tm_v μ 65 30 ≠ 0 ∧ 0 < s.lf s.pb then y_go μ s.pb (s.lf s.pb) else y_go μ s.pb (y_stp μ v s.pb s.db s.mb))
      (if t % tm_v μ 65 24 ≠ 0 then s.db else if tm_v μ 65 30 ≠ 0 ∧ 0 < s.lf s.pb then s.db else s.db + 1)
      (if t % tm_v μ 65 24 ≠ 0 then s.mb else if tm_v μ 65 30 ≠ 0 ∧ 0 < s.lf s.pb then s.mb else y_md μ v s.pb s.mb)
      (if y_go μ s.pa (y_stp μ w s.pa s.da s.ma) ≠ s.pa then fup s.lf s.pa (y_stp μ w s.pa s.da s.ma) else s.lf)
def y_met (μ : tm_M) (a b wa wb : Int) : Prop := a = b ∨ (tm_v μ 65 28 ≠ 0 ∧ a = wb ∧ b = wa)
noncomputable def y_run (μ : tm_M) (w v : Int) : Nat → Int → WS → Int
  | 0, _, _ => -1
  | n + 1, t, s => @ite Int (y_met μ (y_tick μ w v t s).pa (y_tick μ w v t s).pb s.pa s.pb) (Classical.propDecidable _) (t + 1) (y_run μ w v n (t + 1) (y_tick μ w v t s))
def y_ws0 (a b : Int) : WS := ws a 0 0 b 0 0 (fun _ => 0)
/-- when two meet -/
noncomputable def y_walk (μ : tm_M) (w v a b : Int) : Int := if a = b then 0 else y_run μ w v 200 0 (y_ws0 a b)
/-- a state of a walk is well made -/
def WS.ok (μ : tm_M) (t : Int) (s : WS) : Prop := y_p μ s.pa ∧ y_p μ s.pb ∧ (0 ≤ s.da ∧ s.da ≤ t) ∧ (0 ≤ s.db ∧ s.db ≤ t) ∧ (0 ≤ s.ma ∧ s.ma ≤ 2) ∧ (0 ≤ s.mb ∧ s.mb ≤ 2) ∧ ∀ q, 0 ≤ q → q < 8 → s.lf q = 0 ∨ (y_p μ q ∧ 1 ≤ s.lf q ∧ s.lf q ≤ tm_v μ 72 q)
/-- the model's cells hold it -/
def WS.inM (μ : tm_M) (s : WS) (m : tm_M) : Prop := tm_v m 85 0 = s.pa ∧ tm_v m 85 1 = s.pb ∧ tm_v m 86 0 = s.da ∧ tm_v m 86 1 = s.db ∧ tm_v m 87 0 = s.ma ∧ tm_v m 87 1 = s.mb ∧ ∀ q, 0 ≤ q → q < 8 → tm_v m 88 q = if s.lf q = 0 then -1 else tm_v μ 74 (4 * q + s.lf q - 1)
theorem y_nearer_p {F : Int → Int} {p : Int} (hp : y_p μ p) : y_p μ (y_nearer μ F p) := by
  unfold y_nearer
  split
  · exact hp
  · rename_i h
    unfold y_near at *
    rcases fdn_spec (c := fun k => (0 ≤ k ∧ k < tm_v μ 72 p ∧ tm_v μ 80 (tm_v μ 74 (4 * p + k)) = 0) ∧ F (y_leads μ p k) < F p) (e := -1) (tm_v μ 72 p).toNat 0 with e | ⟨_, _, e, _⟩
    · omega
    · exact (y_leads_p hp e.1.1 e.1.2.1).1
theorem y_near_congr {F G : Int → Int} {p : Int} (hp : y_p μ p) (h : ∀ q, 0 ≤ q → q < tm_v μ 65 20 → F q = G q) : y_nearer μ F p = y_nearer μ G p := by
  have key : ∀ (n : Nat) (k : Int), 0 ≤ k → fdn (fun k => (0 ≤ k ∧ k < tm_v μ 72 p ∧ tm_v μ 80 (tm_v μ 74 (4 * p + k)) = 0) ∧ F (y_leads μ p k) < F p) (-1) n k = fdn (fun k => (0 ≤ k ∧ k < tm_v μ 72 p ∧ tm_v μ 80 (tm_v μ 74 (4 * p + k)) = 0) ∧ G (y_leads μ p k) < G p) (-1) n k := by
    intro n
    induction n with
    | zero => intro k _; rfl
    | succ n ih =>
      intro k hk
      rw [fdn, fdn, ih (k + 1) (by omega)]
      have : ((0 ≤ k ∧ k < tm_v μ 72 p ∧ tm_v μ 80 (tm_v μ 74 (4 * p + k)) = 0) ∧ F (y_leads μ p k) < F p) ↔ ((0 ≤ k ∧ k < tm_v μ 72 p ∧ tm_v μ 80 (tm_v μ 74 (4 * p + k)) = 0) ∧ G (y_leads μ p k) < G p) := by
        refine and_congr_right fun c => ?_
        have hl := (y_leads_p hp c.1 c.2.1).1.2
        rw [h _ hl.1 hl.2, h _ hp.2.1 hp.2.2]
      by_cases c : (0 ≤ k ∧ k < tm_v μ 72 p ∧ tm_v μ 80 (tm_v μ 74 (4 * p + k)) = 0) ∧ F (y_leads μ p k) < F p
      · rw [if_pos c, if_pos (this.mp c)]
      · rw [if_neg c, if_neg (fun q => c (this.mpr q))]
  unfold y_nearer
  have e : y_near μ F p = y_near μ G p := key _ 0 (Int.le_refl _)
  rw [e]
/-- who leaves a place leaves it by one of its lanes -/
theorem y_go_left {p s : Int} (h : y_go μ p s ≠ p) : 1 ≤ s ∧ s ≤ tm_v μ 72 p ∧ tm_v μ 80 (tm_v μ 74 (4 * p + (s - 1))) = 0 := by
  unfold y_go at h
  split at h
  · rename_i c; exact ⟨by omega, by omega, c.2.2⟩
  · exact absurd rfl h
theorem y_tick_ok {w v t : Int} {s : WS} (hw : y_v μ w) (hv : y_v μ v) (h : s.ok μ t) : (y_tick μ w v t s).ok μ (t + 1) := by
  obtain ⟨ha, hb, h1, h2, h3, h4, h5⟩ := h
  have ia := y_stp_in hw ha h1.1 h3
  have ib := y_stp_in hv hb h2.1 h4
  unfold y_tick
  split
  · refine ⟨ha, ?_, by simp only [ws_pa, ws_da, ws_ma, ws_pb, ws_db, ws_mb, ws_lf]; omega, by simp only [ws_pa, ws_da, ws_ma, ws_pb, ws_db, ws_mb, ws_lf]; omega, h3, h4, h5⟩
    simp only [ws_pa, ws_da, ws_ma, ws_pb, ws_db, ws_mb, ws_lf]
    split
    · exact y_nearer_p hb
    · exact hb
  · refine ⟨y_go_p ha, ?_, by simp only [ws_pa, ws_da, ws_ma, ws_pb, ws_db, ws_mb, ws_lf]; omega, ?_, ia.2, ?_, ?_⟩ <;> simp only [ws_pa, ws_da, ws_ma, ws_pb, ws_db, ws_mb, ws_lf]
    · split
      · exact hb
      · split <;> exact y_go_p hb
    · split
      · omega
      · split <;> omega
    · split
      · exact h4
      · split
        · exact h4
        · exact ib.2
    · intro q q0 q8
      split
      · rename_i c
        unfold fup
        split
        · rename_i e
          right
          have := y_go_left c
          rw [e]
          exact ⟨ha, this.1, this.2.1⟩
        · exact h5 q q0 q8
      · exact h5 q q0 q8
theorem pX6_walk {w v a b : Int} (hd : 3 ≤ d) (hs : tS μ) (hw : y_v μ w) (hv : y_v μ v) (ha : y_p μ a) (hb : y_p μ b) : cI wX6_walk mX6_walk d [(2, 65), (0, w), (0, v), (0, a), (0, b)] μ (fun r _ => r = y_walk μ w v a b) := by
  have hW := ha.1
  have hsl := hW.2.2.2.2.1
  have ticks : ∀ (n : Nat) (t : Int) (s : WS) (m : tm_M), 0 ≤ t → t + n = 200 → tFr wX6_walk μ m → s.ok μ t → s.inM μ m →
      hI wX6_walk μ mX6_walk d (fun r _ => r = y_run μ w v n t s) 48 [(0, 2, 65), (1, 0, w), (2, 0, v), (5, 0, t)] [] m := by
    intro n
    induction n with
    | zero =>
      intro t s m t0 ht hm hk hi
      exact uX6_walk_48 hm ⟨fun c => rfl, fun c => by omega⟩
    | succ n ih =>
      intro t s m t0 ht hm hk hi
      obtain ⟨i1, i2, i3, i4, i5, i6, i7⟩ := hi
      have hk' := hk
      obtain ⟨k1, k2, k3, k4, k5, k6, k7⟩ := hk
      have hk2 := y_tick_ok hw hv hk'
      have et : w32 (t + 1) = t + 1 := w32_id (by omega) (by omega)
      have etm : t.tmod (tm_v μ 65 24) = t % tm_v μ 65 24 := Int.tmod_eq_emod_of_nonneg t0
      have b1 := y_p8 k1
      have b2 := y_p8 k2
      -- the end of a tick
      have fin : ∀ m', tFr wX6_walk μ m' → (y_tick μ w v t s).inM μ m' → hI wX6_walk μ mX6_walk d (fun r _ => r = y_run μ w v (n + 1) t s) 248 [(0, 2, 65), (1, 0, w), (2, 0, v), (5, 0, t), (6, 0, s.pa), (7, 0, s.pb)] [] m' := by
        intro m' hm' hi'
        refine uX6_walk_248 (by omega) hm' ?_
        rw [hi'.1, hi'.2.1, et]
        refine ⟨fun c => ?_, fun c => ?_⟩
        · have := ih (t + 1) _ m' (by omega) (by omega) hm' hk2 hi'
          rw [y_run, if_neg (show ¬ y_met μ (y_tick μ w v t s).pa (y_tick μ w v t s).pb s.pa s.pb from c)]
          exact this
        · rw [y_run, if_pos (show y_met μ (y_tick μ w v t s).pa (y_tick μ w v t s).pb s.pa s.pb from c)]
      have mid : ∀ x8, (x8 = 0 ↔ t % tm_v μ 65 24 = 0) → hI wX6_walk μ mX6_walk d (fun r _ => r = y_run μ w v (n + 1) t s) 89 [(0, 2, 65), (1, 0, w), (2, 0, v), (5, 0, t), (6, 0, s.pa), (7, 0, s.pb), (8, 0, x8)] [] m := by
        intro x8 h8
        refine uX6_walk_89 hd hm ?_
        have pm : y_p m s.pa := (y_p_F hm (tWs_T rfl) _).mpr k1
        refine tC.V (pX6_findFar (by omega) hm.S pm) ?_
        intro m1 f1 h1
        have eg : y_go m = y_go μ := by funext p k; exact y_go_F hm (tWs_T rfl) p k
        have e20 : tm_v m 65 20 = tm_v μ 65 20 := hm.v (tWs_noF rfl)
        rw [eg, e20] at h1
        have fm1 : tFr wX6_walk μ m1 := hm.tr f1 (tWs_sub rfl)
        have g1 : tm_v m1 85 0 = s.pa := by rw [f1.v (tWs_no _ rfl)]; exact i1
        have g2 : tm_v m1 85 1 = s.pb := by rw [f1.v (tWs_no _ rfl)]; exact i2
        have g3 : tm_v m1 86 0 = s.da := by rw [f1.v (tWs_no _ rfl)]; exact i3
        have g4 : tm_v m1 86 1 = s.db := by rw [f1.v (tWs_no _ rfl)]; exact i4
        have g5 : tm_v m1 87 0 = s.ma := by rw [f1.v (tWs_no _ rfl)]; exact i5
        have g6 : tm_v m1 87 1 = s.mb := by rw [f1.v (tWs_no _ rfl)]; exact i6
        have g7 : ∀ q, 0 ≤ q → q < 8 → tm_v m1 88 q = if s.lf q = 0 then -1 else tm_v μ 74 (4 * q + s.lf q - 1) := by intro q q0 q8; rw [f1.v (tWs_no _ rfl)]; exact i7 q q0 q8
        have hf := h1 s.pb k2.2.1 k2.2.2
        refine ⟨b2, fun c => ?_, fun c => ?_⟩
        · -- they walk
          have cf : ¬ y_far (y_go μ) s.pa s.pb ≤ tm_v μ 65 25 := by omega
          have w1 : y_v m1 w := ⟨(y_V_F fm1 (tWs_T rfl)).mpr hw.1, by rw [fm1.v (tWs_noF rfl)]; exact hw.2⟩
          have v1 : ∀ m2, tFr wX6_walk μ m2 → y_v m2 v := fun m2 f2 => ⟨(y_V_F f2 (tWs_T rfl)).mpr hv.1, by rw [f2.v (tWs_noF rfl)]; exact hv.2⟩
          have p1 : y_p m1 s.pa := (y_p_F fm1 (tWs_T rfl) _).mpr k1
          have stpF : ∀ m2, tFr wX6_walk μ m2 → ∀ w p dn md, y_stp m2 w p dn md = y_stp μ w p dn md := by
            intro m2 f2 w p dn md
            unfold y_stp
            simp only [y_t82 f2 (tWs_T rfl), y_t83 f2 (tWs_T rfl), y_t84 f2 (tWs_T rfl), y_t70 f2 (tWs_T rfl)]
          have mdF : ∀ m2, tFr wX6_walk μ m2 → ∀ w p md, y_md m2 w p md = y_md μ w p md := by
            intro m2 f2 w p md
            unfold y_md
            simp only [y_t82 f2 (tWs_T rfl), y_t83 f2 (tWs_T rfl), y_t70 f2 (tWs_T rfl)]
          have sa := y_stp_in hw k1 k3.1 k5
          have sb := y_stp_in hv k2 k4.1 k6
          refine tC.I (pX6_stepOf (who := 0) fm1.S w1 p1 (by omega) (by rw [g3]; omega) (by rw [g5]; exact k5)) ?_
          rintro r m2 f2 ⟨er, em⟩
          rw [g3, g5, stpF _ fm1] at er
          rw [g3, g5, mdF _ fm1] at em
          subst er
          have fm2 : tFr wX6_walk μ m2 := fm1.tr f2 (tWs_sub rfl)
          refine ⟨⟨k1, sa.1⟩, ?_⟩
          rintro m3 rfl
          have fm3 : tFr wX6_walk μ (tm_w m2 85 0 (y_go μ s.pa (y_stp μ w s.pa s.da s.ma))) := fm2.w (tWs_in _ rfl) (tS_w fm2.S sf_85 _ _)
          -- what the rest needs
          have rest : ∀ m4, tFr wX6_walk μ m4 → tm_v m4 85 0 = y_go μ s.pa (y_stp μ w s.pa s.da s.ma) → tm_v m4 86 0 = s.da + 1 → tm_v m4 87 0 = y_md μ w s.pa s.ma → tm_v m4 85 1 = (y_tick μ w v t s).pb → tm_v m4 86 1 = (y_tick μ w v t s).db → tm_v m4 87 1 = (y_tick μ w v t s).mb → (∀ q, 0 ≤ q → q < 8 → tm_v m4 88 q = if s.lf q = 0 then -1 else tm_v μ 74 (4 * q + s.lf q - 1)) →
              hI wX6_walk μ mX6_walk d (fun r _ => r = y_run μ w v (n + 1) t s) 216 [(0, 2, 65), (1, 0, w), (2, 0, v), (5, 0, t), (6, 0, s.pa), (7, 0, s.pb), (9, 0, y_stp μ w s.pa s.da s.ma)] [] m4 := by
            intro m4 f4 a1 a2 a3 a4 a5 a6 a7
            refine uX6_walk_216 f4 ?_
            rw [a1]
            refine ⟨fun c2 => ?_, fun c2 => ?_⟩
            · refine fin m4 f4 ⟨?_, a4, ?_, a5, ?_, a6, ?_⟩
              · rw [a1]; unfold y_tick; rw [if_neg cf]; rfl
              · rw [a2]; unfold y_tick; rw [if_neg cf]; rfl
              · rw [a3]; unfold y_tick; rw [if_neg cf]; rfl
              · unfold y_tick; rw [if_neg cf]
                simp only [ws_pa, ws_da, ws_ma, ws_pb, ws_db, ws_mb, ws_lf]
                rw [if_neg (fun q => q c2)]
                exact a7
            · have hl := y_go_left c2
              have e4 : w32 (w32 (w32 (4 * s.pa) + y_stp μ w s.pa s.da s.ma) - 1) = 4 * s.pa + y_stp μ w s.pa s.da s.ma - 1 := by
                rw [w32_id (x := 4 * s.pa) (by omega) (by omega), w32_id (x := 4 * s.pa + y_stp μ w s.pa s.da s.ma) (by omega) (by omega), w32_id (by omega) (by omega)]
              rw [e4]
              refine ⟨by omega, b1, ?_⟩
              rintro m5 rfl
              have f5 : tFr wX6_walk μ (tm_w m4 88 s.pa (tm_v μ 74 (4 * s.pa + y_stp μ w s.pa s.da s.ma - 1))) := f4.w (tWs_in _ rfl) (tS_w f4.S sf_88 _ _)
              refine fin _ f5 ⟨?_, ?_, ?_, ?_, ?_, ?_, ?_⟩
              · rw [tm_vw, if_neg (by omega), a1]; unfold y_tick; rw [if_neg cf]; rfl
              · rw [tm_vw, if_neg (by omega), a4]
              · rw [tm_vw, if_neg (by omega), a2]; unfold y_tick; rw [if_neg cf]; rfl
              · rw [tm_vw, if_neg (by omega), a5]
              · rw [tm_vw, if_neg (by omega), a3]; unfold y_tick; rw [if_neg cf]; rfl
              · rw [tm_vw, if_neg (by omega), a6]
              · intro q q0 q8
                have el : (y_tick μ w v t s).lf = fup s.lf s.pa (y_stp μ w s.pa s.da s.ma) := by unfold y_tick; rw [if_neg cf]; simp only [ws_pa, ws_da, ws_ma, ws_pb, ws_db, ws_mb, ws_lf]; rw [if_pos c2]
                rw [tm_vw, el]
                unfold fup
                by_cases e : q = s.pa
                · rw [if_pos ⟨rfl, e⟩, if_pos e, if_neg (by omega), e]
                · rw [if_neg (by omega), if_neg e]; exact a7 q q0 q8
          have z1 : ∀ j, tm_v (tm_w m2 85 0 (y_go μ s.pa (y_stp μ w s.pa s.da s.ma))) 88 j = tm_v m1 88 j := by intro j; rw [tm_vw, if_neg (by omega), em, tm_vw, if_neg (by omega), tm_vw, if_neg (by omega)]
          have z2 : tm_v (tm_w m2 85 0 (y_go μ s.pa (y_stp μ w s.pa s.da s.ma))) 85 0 = y_go μ s.pa (y_stp μ w s.pa s.da s.ma) := by rw [tm_vw, if_pos ⟨rfl, rfl⟩]
          have z3 : tm_v (tm_w m2 85 0 (y_go μ s.pa (y_stp μ w s.pa s.da s.ma))) 86 0 = s.da + 1 := by rw [tm_vw, if_neg (by omega), em, tm_vw, if_neg (by omega), tm_vw, if_pos ⟨rfl, rfl⟩]
          have z4 : tm_v (tm_w m2 85 0 (y_go μ s.pa (y_stp μ w s.pa s.da s.ma))) 87 0 = y_md μ w s.pa s.ma := by rw [tm_vw, if_neg (by omega), em, tm_vw, if_pos ⟨rfl, rfl⟩]
          have z5 : tm_v (tm_w m2 85 0 (y_go μ s.pa (y_stp μ w s.pa s.da s.ma))) 85 1 = s.pb := by rw [tm_vw, if_neg (by omega), em, tm_vw, if_neg (by omega), tm_vw, if_neg (by omega)]; exact g2
          have z6 : tm_v (tm_w m2 85 0 (y_go μ s.pa (y_stp μ w s.pa s.da s.ma))) 86 1 = s.db := by rw [tm_vw, if_neg (by omega), em, tm_vw, if_neg (by omega), tm_vw, if_neg (by omega)]; exact g4
          have z7 : tm_v (tm_w m2 85 0 (y_go μ s.pa (y_stp μ w s.pa s.da s.ma))) 87 1 = s.mb := by rw [tm_vw, if_neg (by omega), em, tm_vw, if_neg (by omega), tm_vw, if_neg (by omega)]; exact g6
          have z8 : ∀ q, 0 ≤ q → q < 8 → tm_v (tm_w m2 85 0 (y_go μ s.pa (y_stp μ w s.pa s.da s.ma))) 88 q = if s.lf q = 0 then -1 else tm_v μ 74 (4 * q + s.lf q - 1) := fun q q0 q8 => by rw [z1]; exact g7 q q0 q8
          -- the second one's own step
          have own : t % tm_v μ 65 24 = 0 → ¬ (tm_v μ 65 30 ≠ 0 ∧ 0 < s.lf s.pb) → cI wX6_stepOf mX6_stepOf (d - 1) [(2, 65), (0, v), (0, 1), (0, s.pb)] (tm_w m2 85 0 (y_go μ s.pa (y_stp μ w s.pa s.da s.ma))) (fun r17 μ16 => (y_p μ s.pb ∧ 0 ≤ r17 ∧ r17 ≤ 4) ∧ ((∀ μ22, μ22 = tm_w μ16 85 1 (y_go μ s.pb r17) → hI wX6_walk μ mX6_walk d (fun r _ => r = y_run μ w v (n + 1) t s) 216 [(0, 2, 65), (1, 0, w), (2, 0, v), (5, 0, t), (6, 0, s.pa), (7, 0, s.pb), (9, 0, y_stp μ w s.pa s.da s.ma)] [] μ22))) := by
            intro ct cm
            refine tC.I (pX6_stepOf (who := 1) fm3.S (v1 _ fm3) ((y_p_F fm3 (tWs_T rfl) _).mpr k2) (by omega) (by rw [z6]; omega) (by rw [z7]; exact k6)) ?_
            rintro r3 m4 f4 ⟨er, em4⟩
            rw [z6, z7, stpF _ fm3] at er
            rw [z6, z7, mdF _ fm3] at em4
            subst er
            refine ⟨⟨k2, sb.1⟩, ?_⟩
            rintro m5 rfl
            have fm4 : tFr wX6_walk μ m4 := fm3.tr f4 (tWs_sub rfl)
            refine rest _ (fm4.w (tWs_in _ rfl) (tS_w fm4.S sf_85 _ _)) ?_ ?_ ?_ ?_ ?_ ?_ ?_
            · rw [tm_vw, if_neg (by omega), em4, tm_vw, if_neg (by omega), tm_vw, if_neg (by omega)]; exact z2
            · rw [tm_vw, if_neg (by omega), em4, tm_vw, if_neg (by omega), tm_vw, if_neg (by omega)]; exact z3
            · rw [tm_vw, if_neg (by omega), em4, tm_vw, if_neg (by omega), tm_vw, if_neg (by omega)]; exact z4
            · rw [tm_vw, if_pos ⟨rfl, rfl⟩]; unfold y_tick; rw [if_neg cf]; simp only [ws_pa, ws_da, ws_ma, ws_pb, ws_db, ws_mb, ws_lf]; rw [if_neg (by omega), if_neg cm]
            · rw [tm_vw, if_neg (by omega), em4, tm_vw, if_neg (by omega), tm_vw, if_pos ⟨rfl, rfl⟩]; unfold y_tick; rw [if_neg cf]; simp only [ws_pa, ws_da, ws_ma, ws_pb, ws_db, ws_mb, ws_lf]; rw [if_neg (by omega), if_neg cm]
            · rw [tm_vw, if_neg (by omega), em4, tm_vw, if_pos ⟨rfl, rfl⟩]; unfold y_tick; rw [if_neg cf]; simp only [ws_pa, ws_da, ws_ma, ws_pb, ws_db, ws_mb, ws_lf]; rw [if_neg (by omega), if_neg cm]
            · intro q q0 q8
              rw [tm_vw, if_neg (by omega), em4, tm_vw, if_neg (by omega), tm_vw, if_neg (by omega)]; exact z8 q q0 q8
          refine ⟨fun c8 => ?_, fun c8 => ⟨fun c9 => own (h8.mp c8) (fun q => q.1 c9), fun c9 => ⟨fun c10 => own (h8.mp c8) (fun q => ?_), fun c10 => ?_⟩⟩⟩
          · refine rest _ fm3 z2 z3 z4 ?_ ?_ ?_ z8
            · rw [z5]; unfold y_tick; rw [if_neg cf]; simp only [ws_pa, ws_da, ws_ma, ws_pb, ws_db, ws_mb, ws_lf]; rw [if_pos (fun q => c8 (h8.mpr q))]
            · rw [z6]; unfold y_tick; rw [if_neg cf]; simp only [ws_pa, ws_da, ws_ma, ws_pb, ws_db, ws_mb, ws_lf]; rw [if_pos (fun q => c8 (h8.mpr q))]
            · rw [z7]; unfold y_tick; rw [if_neg cf]; simp only [ws_pa, ws_da, ws_ma, ws_pb, ws_db, ws_mb, ws_lf]; rw [if_pos (fun q => c8 (h8.mpr q))]
          · rw [z8 _ b2.1 b2.2, if_neg (by omega)] at c10
            rcases k7 s.pb b2.1 b2.2 with e | e
            · omega
            · have := ((hW.2.2.1 s.pb k2.2.1 k2.2.2).2.2.2.2 (s.lf s.pb - 1) (by omega) (by omega)).1
              rw [show 4 * s.pb + (s.lf s.pb - 1) = 4 * s.pb + s.lf s.pb - 1 by omega] at this
              omega
          · have e8 := z8 _ b2.1 b2.2
            have hlf : s.lf s.pb ≠ 0 := by
              intro e
              rw [e8, if_pos e] at c10
              omega
            rw [if_neg hlf] at e8
            have hlf2 := (k7 s.pb b2.1 b2.2).resolve_left hlf
            have hln := ((hW.2.2.1 s.pb k2.2.1 k2.2.2).2.2.2.2 (s.lf s.pb - 1) (by omega) (by omega)).1
            rw [show 4 * s.pb + (s.lf s.pb - 1) = 4 * s.pb + s.lf s.pb - 1 by omega] at hln
            have h12 := hW.2.1
            refine ⟨by rw [e8]; omega, ?_⟩
            rintro m5 rfl
            have egb : y_goesBy μ s.pb (tm_v (tm_w m2 85 0 (y_go μ s.pa (y_stp μ w s.pa s.da s.ma))) 88 s.pb) = y_go μ s.pb (s.lf s.pb) := by
              rw [e8]
              unfold y_goesBy y_go y_leads
              rw [show 4 * s.pb + (s.lf s.pb - 1) = 4 * s.pb + s.lf s.pb - 1 by omega]
              by_cases cc : tm_v μ 80 (tm_v μ 74 (4 * s.pb + s.lf s.pb - 1)) = 0
              · rw [if_pos cc, if_pos ⟨by omega, by omega, cc⟩, if_pos ⟨by omega, by omega⟩]
              · rw [if_neg cc, if_neg (fun q => cc q.2.2)]
            have cm : tm_v μ 65 30 ≠ 0 ∧ 0 < s.lf s.pb := ⟨c9, by omega⟩
            have ct := h8.mp c8
            refine rest _ (fm3.w (tWs_in _ rfl) (tS_w fm3.S sf_85 _ _)) ?_ ?_ ?_ ?_ ?_ ?_ ?_
            · rw [tm_vw, if_neg (by omega)]; exact z2
            · rw [tm_vw, if_neg (by omega)]; exact z3
            · rw [tm_vw, if_neg (by omega)]; exact z4
            · rw [tm_vw, if_pos ⟨rfl, rfl⟩, egb]; unfold y_tick; rw [if_neg cf]; simp only [ws_pa, ws_da, ws_ma, ws_pb, ws_db, ws_mb, ws_lf]; rw [if_neg (by omega), if_pos cm]
            · rw [tm_vw, if_neg (by omega), z6]; unfold y_tick; rw [if_neg cf]; simp only [ws_pa, ws_da, ws_ma, ws_pb, ws_db, ws_mb, ws_lf]; rw [if_neg (by omega), if_pos cm]
            · rw [tm_vw, if_neg (by omega), z7]; unfold y_tick; rw [if_neg cf]; simp only [ws_pa, ws_da, ws_ma, ws_pb, ws_db, ws_mb, ws_lf]; rw [if_neg (by omega), if_pos cm]
            · intro q q0 q8
              rw [tm_vw, if_neg (by omega)]; exact z8 q q0 q8
        · -- the second one hears
          have cf : y_far (y_go μ) s.pa s.pb ≤ tm_v μ 65 25 := by omega
          have done : ∀ x, x = (y_tick μ w v t s).pb → hI wX6_walk μ mX6_walk d (fun r _ => r = y_run μ w v (n + 1) t s) 248 [(0, 2, 65), (1, 0, w), (2, 0, v), (5, 0, t), (6, 0, s.pa), (7, 0, s.pb)] [] (tm_w m1 85 1 x) := by
            intro x hx
            refine fin _ (fm1.w (tWs_in _ rfl) (tS_w fm1.S sf_85 _ _)) ⟨?_, ?_, ?_, ?_, ?_, ?_, ?_⟩
            · rw [tm_vw, if_neg (by omega), g1]; unfold y_tick; rw [if_pos cf]; rfl
            · rw [tm_vw, if_pos ⟨rfl, rfl⟩, hx]
            · rw [tm_vw, if_neg (by omega), g3]; unfold y_tick; rw [if_pos cf]; rfl
            · rw [tm_vw, if_neg (by omega), g4]; unfold y_tick; rw [if_pos cf]; rfl
            · rw [tm_vw, if_neg (by omega), g5]; unfold y_tick; rw [if_pos cf]; rfl
            · rw [tm_vw, if_neg (by omega), g6]; unfold y_tick; rw [if_pos cf]; rfl
            · intro q q0 q8
              rw [tm_vw, if_neg (by omega)]
              unfold y_tick; rw [if_pos cf]
              exact g7 q q0 q8
          refine ⟨fun c8 => ⟨k2, ?_⟩, fun c8 => ?_⟩
          · rintro m5 rfl
            refine done _ ?_
            unfold y_tick
            rw [if_pos cf]
            simp only [ws_pa, ws_da, ws_ma, ws_pb, ws_db, ws_mb, ws_lf]
            rw [if_pos (h8.mp c8)]
            exact y_near_congr k2 h1
          · rintro m5 rfl
            refine done _ ?_
            unfold y_tick
            rw [if_pos cf]
            simp only [ws_pa, ws_da, ws_ma, ws_pb, ws_db, ws_mb, ws_lf]
            rw [if_neg (fun q => c8 (h8.mpr q))]
      refine uX6_walk_48 hm ⟨fun c => by omega, fun c => ?_⟩
      rintro _ rfl _ rfl
      rw [i1, i2, etm]
      exact ⟨by omega, fun c2 => mid 0 ⟨fun _ => c2, fun _ => rfl⟩, fun c2 => mid 1 ⟨fun q => absurd q (by decide), fun q => absurd q c2⟩⟩
  have lefts : ∀ (n : Nat) (k : Int) (m : tm_M), 0 ≤ k → k + n = 8 → a ≠ b → tFr wX6_walk μ m → tm_v m 85 0 = a → tm_v m 85 1 = b → tm_v m 86 0 = 0 → tm_v m 86 1 = 0 → tm_v m 87 0 = 0 → tm_v m 87 1 = 0 → (∀ q, 0 ≤ q → q < k → tm_v m 88 q = -1) →
      hI wX6_walk μ mX6_walk d (fun r _ => r = y_walk μ w v a b) 24 [(0, 2, 65), (1, 0, w), (2, 0, v), (5, 0, k)] [] m := by
    intro n
    induction n with
    | zero =>
      intro k m k0 hk hab hm h1 h2 h3 h4 h5 h6 h7
      refine uX6_walk_24 hm ⟨fun c => ?_, fun c => by omega⟩
      unfold y_walk
      rw [if_neg hab]
      exact ticks 200 0 (y_ws0 a b) m (by omega) (by omega) hm ⟨ha, hb, by simp [y_ws0, ws_pa, ws_da, ws_ma, ws_pb, ws_db, ws_mb, ws_lf], by simp [y_ws0, ws_pa, ws_da, ws_ma, ws_pb, ws_db, ws_mb, ws_lf], by simp [y_ws0, ws_pa, ws_da, ws_ma, ws_pb, ws_db, ws_mb, ws_lf], by simp [y_ws0, ws_pa, ws_da, ws_ma, ws_pb, ws_db, ws_mb, ws_lf], fun q _ _ => Or.inl rfl⟩ ⟨h1, h2, h3, h4, h5, h6, fun q q0 q8 => by rw [h7 q q0 (by omega)]; rfl⟩
    | succ n ih =>
      intro k m k0 hk hab hm h1 h2 h3 h4 h5 h6 h7
      refine uX6_walk_24 hm ⟨fun c => by omega, fun c => ⟨by omega, ?_⟩⟩
      rintro _ rfl
      rw [w32_id (by omega) (by omega)]
      refine ih (k + 1) _ (by omega) (by omega) hab (hm.w (tWs_in _ rfl) (tS_w hm.S sf_88 _ _)) ?_ ?_ ?_ ?_ ?_ ?_ (fun q q0 q1 => ?_)
      · rw [tm_vw, if_neg (by omega)]; exact h1
      · rw [tm_vw, if_neg (by omega)]; exact h2
      · rw [tm_vw, if_neg (by omega)]; exact h3
      · rw [tm_vw, if_neg (by omega)]; exact h4
      · rw [tm_vw, if_neg (by omega)]; exact h5
      · rw [tm_vw, if_neg (by omega)]; exact h6
      · rw [tm_vw]
        by_cases e : q = k
        · rw [if_pos ⟨rfl, e⟩]
        · rw [if_neg (by omega)]; exact h7 q q0 (by omega)
  refine t_of (uX6_walk_0 (by omega) (tFr.rf hs) ⟨fun c => ?_, fun c => by unfold y_walk; rw [if_pos c]⟩)
  rintro _ rfl _ rfl
  refine lefts 8 0 _ (by omega) (by omega) c ?_ ?_ ?_ ?_ ?_ ?_ ?_ (fun q q0 q1 => by omega)
  · refine tFr.w (tFr.w (tFr.w (tFr.w (tFr.w (tFr.w (tFr.rf hs) ?_ ?_) ?_ ?_) ?_ ?_) ?_ ?_) ?_ ?_) ?_ ?_
    all_goals first | exact tWs_in _ rfl | skip
    · exact tS_w hs sf_85 _ _
    · exact tS_w (tS_w hs sf_85 _ _) sf_86 _ _
    · exact tS_w (tS_w (tS_w hs sf_85 _ _) sf_86 _ _) sf_87 _ _
    · exact tS_w (tS_w (tS_w (tS_w hs sf_85 _ _) sf_86 _ _) sf_87 _ _) sf_85 _ _
    · exact tS_w (tS_w (tS_w (tS_w (tS_w hs sf_85 _ _) sf_86 _ _) sf_87 _ _) sf_85 _ _) sf_86 _ _
    · exact tS_w (tS_w (tS_w (tS_w (tS_w (tS_w hs sf_85 _ _) sf_86 _ _) sf_87 _ _) sf_85 _ _) sf_86 _ _) sf_87 _ _
  all_goals simp [tm_vw]
end C6F
