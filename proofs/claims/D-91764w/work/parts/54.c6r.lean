/-! CONTRACTS of the model: ways that are drawn -/
theorem sm_mono {f : Int → Int} {m n : Nat} (h : ∀ i : Nat, i < n → 0 ≤ f i) (hm : m ≤ n) : sm f m ≤ sm f n := by
  induction n with
  | zero => rw [show m = 0 by omega]; exact Int.le_refl _
  | succ n ih =>
    by_cases e : m = n + 1
    · rw [e]; exact Int.le_refl _
    · have := ih (fun i hi => h i (by omega)) (by omega)
      have := h n (by omega)
      rw [sm]; omega
theorem sm_nn {f : Int → Int} {n : Nat} (h : ∀ i : Nat, i < n → 0 ≤ f i) : 0 ≤ sm f n := by
  have := sm_mono (m := 0) h (by omega)
  exact this
theorem sm_get {f : Int → Int} {n j : Nat} (h : ∀ i : Nat, i < n → 0 ≤ f i) (hj : j < n) : f j ≤ sm f n := by
  have h1 := sm_mono (m := j + 1) h (by omega)
  have h2 := sm_nn (n := j) (f := f) (fun i hi => h i (by omega))
  rw [sm] at h1
  omega
theorem sm_fup {f : Int → Int} {n j : Nat} {x : Int} (hj : j < n) : sm (fup f j x) n = sm f n + x - f j := by
  induction n with
  | zero => omega
  | succ n ih =>
    rw [sm, sm]
    by_cases e : j = n
    · have : sm (fup f j x) n = sm f n := sm_congr (fun i hi => by unfold fup; rw [if_neg (by omega)])
      rw [this, e]
      unfold fup
      rw [if_pos rfl]
      omega
    · rw [ih (by omega)]
      have : fup f j x n = f n := by unfold fup; rw [if_neg (by omega)]
      omega
theorem sm_ne {f : Int → Int} {n : Nat} (h : sm f n ≠ 0) : ∃ i : Nat, i < n ∧ f i ≠ 0 := by
  induction n with
  | zero => exact absurd rfl h
  | succ n ih =>
    by_cases e : f n = 0
    · obtain ⟨i, hi, h2⟩ := ih (by rw [sm, e] at h; omega)
      exact ⟨i, by omega, h2⟩
    · exact ⟨n, by omega, e⟩
theorem sm_z {f : Int → Int} {n : Nat} (h : ∀ i : Nat, i < n → f i = 0) : sm f n = 0 := by
  by_cases e : sm f n = 0
  · exact e
  · obtain ⟨i, hi, h2⟩ := sm_ne e
    exact absurd (h i hi) h2
theorem sm_plus {f g : Int → Int} {n : Nat} : sm (fun i => f i + g i) n = sm f n + sm g n := by
  induction n with
  | zero => rfl
  | succ n ih => rw [sm, sm, sm, ih]; omega
theorem sm_mul {f : Int → Int} {n : Nat} {c : Int} : sm (fun i => c * f i) n = c * sm f n := by
  induction n with
  | zero => simp [sm]
  | succ n ih => rw [sm, sm, ih, Int.mul_add]
theorem sm_add {f : Int → Int} {m k : Nat} : sm f (m + k) = sm f m + sm (fun i => f (m + i)) k := by
  induction k with
  | zero => simp [sm]
  | succ k ih =>
    rw [← Nat.add_assoc, sm, ih, sm, Int.natCast_add]
    omega
theorem sm_cut {f : Int → Int} {m n : Nat} (hm : m ≤ n) (h : ∀ i : Nat, m ≤ i → i < n → f i = 0) : sm f n = sm f m := by
  obtain ⟨k, rfl⟩ : ∃ k, n = m + k := ⟨n - m, by omega⟩
  have hz : sm (fun i => f (m + i)) k = 0 := sm_z (fun i hi => by
    have := h (m + i) (by omega) (by omega)
    rw [Int.natCast_add] at this
    exact this)
  rw [sm_add, hz]
  omega
theorem sm_flat {f : Int → Int} {n : Nat} : sm f (8 * n) = sm (fun a => sm (fun b => f (8 * a + b)) 8) n := by
  induction n with
  | zero => rfl
  | succ n ih =>
    rw [show 8 * (n + 1) = 8 * n + 8 by omega, sm_add, sm, ih]
    congr 1
section C6R
variable {d : Nat} {μ μ0 : tm_M} {W : Int → Int → Prop}
theorem y_stp_F (hs : tFr W μ0 μ) (hw : y_T W) (w p dn md : Int) : y_stp μ w p dn md = y_stp μ0 w p dn md := by
  unfold y_stp
  simp only [y_t82 hs hw, y_t83 hs hw, y_t84 hs hw, y_t70 hs hw]
theorem y_md_F (hs : tFr W μ0 μ) (hw : y_T W) (w p md : Int) : y_md μ w p md = y_md μ0 w p md := by
  unfold y_md
  simp only [y_t82 hs hw, y_t83 hs hw, y_t70 hs hw]
theorem pX6_stepOfF {w who p dn md : Int} (hs : tFr W μ0 μ) (hT : y_T W) (hw : y_v μ0 w) (hp : y_p μ0 p) (hc : 0 ≤ who ∧ who < 3) (e1 : tm_v μ 86 who = dn) (e2 : tm_v μ 87 who = md) (hn : 0 ≤ dn ∧ dn ≤ 1000000) (hm : 0 ≤ md ∧ md ≤ 2) :
    cI wX6_stepOf mX6_stepOf d [(2, 65), (0, w), (0, who), (0, p)] μ (fun r μ' => r = y_stp μ0 w p dn md ∧ μ' = tm_w (tm_w μ 86 who (dn + 1)) 87 who (y_md μ0 w p md)) := by
  subst e1 e2
  have := pX6_stepOf (d := d) hs.S ((y_v_F hs hT w).mpr hw) ((y_p_F hs hT p).mpr hp) hc hn hm
  rw [y_stp_F hs hT, y_md_F hs hT] at this
  exact this
noncomputable def y_pt (μ : tm_M) (w v : Int) (s : WS) : WS := ws (y_go μ s.pa (y_stp μ w s.pa s.da s.ma)) (s.da + 1) (y_md μ w s.pa s.ma) (y_go μ s.pb (y_stp μ v s.pb s.db s.mb)) (s.db + 1) (y_md μ v s.pb s.mb) s.lf
noncomputable def y_pl (μ : tm_M) (w v : Int) : Nat → WS → Int
  | 0, s => 8 * s.pa + s.pb
  | n + 1, s => @ite Int (y_met μ (y_pt μ w v s).pa (y_pt μ w v s).pb s.pa s.pb) (Classical.propDecidable _) (-1) (y_pl μ w v n (y_pt μ w v s))
def pl_ok (μ : tm_M) (t : Int) (s : WS) : Prop := y_p μ s.pa ∧ y_p μ s.pb ∧ (0 ≤ s.da ∧ s.da ≤ t) ∧ (0 ≤ s.db ∧ s.db ≤ t) ∧ (0 ≤ s.ma ∧ s.ma ≤ 2) ∧ (0 ≤ s.mb ∧ s.mb ≤ 2)
theorem y_pt_ok {w v t : Int} {s : WS} (hw : y_v μ w) (hv : y_v μ v) (h : pl_ok μ t s) : pl_ok μ (t + 1) (y_pt μ w v s) := by
  obtain ⟨h1, h2, h3, h4, h5, h6⟩ := h
  exact ⟨y_go_p h1, y_go_p h2, by unfold y_pt; rw [ws_da]; omega, by unfold y_pt; rw [ws_db]; omega, (y_stp_in hw h1 h3.1 h5).2, (y_stp_in hv h2 h4.1 h6).2⟩
theorem y_pl_in {w v : Int} (hw : y_v μ w) (hv : y_v μ v) (n : Nat) : ∀ (t : Int) (s : WS), pl_ok μ t s → y_pl μ w v n s = -1 ∨ ∃ p q, y_p μ p ∧ y_p μ q ∧ y_pl μ w v n s = 8 * p + q := by
  induction n with
  | zero => intro t s h; exact Or.inr ⟨s.pa, s.pb, h.1, h.2.1, rfl⟩
  | succ n ih =>
    intro t s h
    rw [y_pl]
    split
    · exact Or.inl rfl
    · exact ih (t + 1) _ (y_pt_ok hw hv h)
theorem y_pl_F (hs : tFr W μ0 μ) (hw : y_T W) (w v : Int) (n : Nat) : ∀ s, y_pl μ w v n s = y_pl μ0 w v n s := by
  have e : y_met μ = y_met μ0 := by funext a b c d; unfold y_met; rw [y_f28 hs hw]
  have et : ∀ s, y_pt μ w v s = y_pt μ0 w v s := by intro s; unfold y_pt; simp only [y_go_F hs hw, y_stp_F hs hw, y_md_F hs hw]
  induction n with
  | zero => intro s; rfl
  | succ n ih => intro s; rw [y_pl, y_pl, et, ih, e]
theorem pX6_play {w v a b t : Int} (hd : 3 ≤ d) (hs : tS μ) (hw : y_v μ w) (hv : y_v μ v) (ha : y_p μ a) (hb : y_p μ b) (ht : 0 ≤ t ∧ t ≤ 1000) : cI wX6_play mX6_play d [(2, 65), (0, w), (0, v), (0, a), (0, b), (0, t)] μ (fun r _ => r = y_pl μ w v t.toNat (y_ws0 a b)) := by
  have hT : y_T wX6_play := tWs_T rfl
  have loop : ∀ (n : Nat) (k : Int) (s : WS) (m : tm_M), 0 ≤ k → k + n = t → tFr wX6_play μ m → pl_ok μ k s → tm_v m 85 0 = s.pa → tm_v m 85 1 = s.pb → tm_v m 86 0 = s.da → tm_v m 86 1 = s.db → tm_v m 87 0 = s.ma → tm_v m 87 1 = s.mb →
      hI wX6_play μ mX6_play d (fun r _ => r = y_pl μ w v n s) 16 [(0, 2, 65), (1, 0, w), (2, 0, v), (5, 0, t), (6, 0, k)] [] m := by
    intro n
    induction n with
    | zero =>
      intro k s m k0 kn hm hk i1 i2 i3 i4 i5 i6
      refine uX6_play_16 hd hm ⟨fun c => ?_, fun c => by omega⟩
      have a8 := y_p8 hk.1
      have b8 := y_p8 hk.2.1
      rw [i1, i2, w32_8 a8 b8]
      rfl
    | succ n ih =>
      intro k s m k0 kn hm hk i1 i2 i3 i4 i5 i6
      have hk' := y_pt_ok hw hv hk
      obtain ⟨h1, h2, h3, h4, h5, h6⟩ := hk
      refine uX6_play_16 hd hm ⟨fun c => by omega, fun c => ?_⟩
      rw [i1, i2]
      rintro _ rfl _ rfl
      refine tC.I (pX6_stepOfF (who := 0) hm hT hw h1 (by omega) i3 i5 (by omega) h5) ?_
      rintro r m2 f2 ⟨rfl, e2⟩
      have fm2 := hm.tr f2 (tWs_sub rfl)
      refine ⟨⟨h1, (y_stp_in hw h1 h3.1 h5).1⟩, ?_⟩
      intro m3 e3
      have fm3 : tFr wX6_play μ m3 := by rw [e3]; exact fm2.w (tWs_in _ rfl) (tS_w fm2.S sf_85 _ _)
      refine tC.I (pX6_stepOfF (who := 1) fm3 hT hv h2 (by omega) (dn := s.db) (md := s.mb) (by rw [e3, e2]; simp [tm_vw, i4]) (by rw [e3, e2]; simp [tm_vw, i6]) (by omega) h6) ?_
      rintro r m4 f4 ⟨rfl, e4⟩
      have fm4 := fm3.tr f4 (tWs_sub rfl)
      refine ⟨⟨h2, (y_stp_in hv h2 h4.1 h6).1⟩, ?_⟩
      intro m5 e5
      have fm5 : tFr wX6_play μ m5 := by rw [e5]; exact fm4.w (tWs_in _ rfl) (tS_w fm4.S sf_85 _ _)
      have g1 : tm_v m5 85 0 = (y_pt μ w v s).pa := by rw [e5, e4, e3]; simp [tm_vw]; rfl
      have g2 : tm_v m5 85 1 = (y_pt μ w v s).pb := by rw [e5]; simp [tm_vw]; rfl
      have g3 : tm_v m5 86 0 = (y_pt μ w v s).da := by rw [e5, e4, e3, e2]; simp [tm_vw]; rfl
      have g4 : tm_v m5 86 1 = (y_pt μ w v s).db := by rw [e5, e4]; simp [tm_vw]; rfl
      have g5 : tm_v m5 87 0 = (y_pt μ w v s).ma := by rw [e5, e4, e3, e2]; simp [tm_vw]; rfl
      have g6 : tm_v m5 87 1 = (y_pt μ w v s).mb := by rw [e5, e4]; simp [tm_vw]; rfl
      rw [g1, g2, w32_id (x := k + 1) (by omega) (by omega)]
      refine ⟨fun c2 => ?_, fun c2 => ?_⟩
      · rw [y_pl, if_neg (show ¬ y_met μ (y_pt μ w v s).pa (y_pt μ w v s).pb s.pa s.pb from c2)]
        exact ih (k + 1) _ m5 (by omega) (by omega) fm5 hk' g1 g2 g3 g4 g5 g6
      · rw [y_pl, if_pos (show y_met μ (y_pt μ w v s).pa (y_pt μ w v s).pb s.pa s.pb from c2)]
  refine t_of (uX6_play_0 (by omega) (tFr.rf hs) ?_)
  intro m1 e1 m2 e2
  have f1 : tFr wX6_play μ m1 := by rw [e1]; exact (((tFr.rf hs).w (tWs_in _ rfl) (tS_w hs sf_85 _ _)).w (tWs_in _ rfl) (tS_w (tS_w hs sf_85 _ _) sf_86 _ _)).w (tWs_in _ rfl) (tS_w (tS_w (tS_w hs sf_85 _ _) sf_86 _ _) sf_87 _ _)
  have f2 : tFr wX6_play μ m2 := by rw [e2]; exact ((f1.w (tWs_in _ rfl) (tS_w f1.S sf_85 _ _)).w (tWs_in _ rfl) (tS_w (tS_w f1.S sf_85 _ _) sf_86 _ _)).w (tWs_in _ rfl) (tS_w (tS_w (tS_w f1.S sf_85 _ _) sf_86 _ _) sf_87 _ _)
  refine loop t.toNat 0 (y_ws0 a b) m2 (by omega) (by omega) f2 ⟨ha, hb, ?_, ?_, ?_, ?_⟩ ?_ ?_ ?_ ?_ ?_ ?_
  · exact ⟨Int.le_refl _, Int.le_refl _⟩
  · exact ⟨Int.le_refl _, Int.le_refl _⟩
  · exact ⟨Int.le_refl _, show (0 : Int) ≤ 2 by decide⟩
  · exact ⟨Int.le_refl _, show (0 : Int) ≤ 2 by decide⟩
  all_goals rw [e2, e1]; simp [tm_vw]; rfl
end C6R
