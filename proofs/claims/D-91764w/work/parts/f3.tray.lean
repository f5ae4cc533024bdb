theorem t_nc1 : Cond.not (.castable "java/lang/ArrayIndexOutOfBoundsException" "java/lang/NullPointerException") ∈ flatC (Jvm.Cond.and given_1 narrow_1) := by
  have h : (flatC (Jvm.Cond.and given_1 narrow_1)).contains (Cond.not (.castable "java/lang/ArrayIndexOutOfBoundsException" "java/lang/NullPointerException")) = true := by decide +kernel
  simpa using h
/-! CONTRACTS of the component: tray, write, read -/
section C0TR
variable {d mc ms nc ns : Nat} {μ ν : tm_M} {t s n k v x : Int}
theorem tS_10 (hs : tS μ) (x : Int) : tS (tm_w μ 1 10 x) := tS_wj hs x (by decide)
theorem r_is {Q : tQ} {B : Int → tm_M → Nat → Nat → Prop} (hs : tS μ) (hd : 1 ≤ d) (h1 : nc ≤ mc) (h2 : ns ≤ ms) (hq : Q (.inl (some (0, b2i (x = 0)))) (tm_w μ 1 10 x)) :
    rcl mX0_is [(2, 1), (0, x)] μ d mc ms nc ns (fun o μ1 nc1 ns1 => rk 0 o (fun r => tS μ1 ∧ ((nc1 ≤ mc ∧ ns1 ≤ ms) ∧ ((0 ≤ r ∧ r ≤ 1) ∧ (Q (.inl (some (0, r))) μ1)))) (fun a => B a μ1 nc1 ns1)) := by
  refine rcl_I (d' := 0) (A := fun r μ1 nc1 ns1 => tS μ1 ∧ ((nc1 ≤ mc ∧ ns1 ≤ ms) ∧ ((0 ≤ r ∧ r ≤ 1) ∧ (Q (.inl (some (0, r))) μ1)))) (pX0_is hs) hd h1 h2 (fun r μ1 _ q => ?_)
  obtain ⟨rfl, rfl⟩ := q
  exact ⟨tS_10 hs x, ⟨h1, h2⟩, b2i_in _, hq⟩
theorem r_none {Q : tQ} {B : Int → tm_M → Nat → Nat → Prop} (hs : tS μ) (hd : 1 ≤ d) (h1 : nc ≤ mc) (h2 : ns ≤ ms) (hq : Q (.inl (some (1, -1))) (tm_w μ 1 10 x)) :
    rcl mX0_none [(2, 1), (0, x)] μ d mc ms nc ns (fun o μ1 nc1 ns1 => rk 0 o (fun r => tS μ1 ∧ ((nc1 ≤ mc ∧ ns1 ≤ ms) ∧ (Q (.inl (some (1, r))) μ1))) (fun a => B a μ1 nc1 ns1)) := by
  refine rcl_I (d' := 0) (A := fun r μ1 nc1 ns1 => tS μ1 ∧ ((nc1 ≤ mc ∧ ns1 ≤ ms) ∧ (Q (.inl (some (1, r))) μ1))) (pX0_none hs) hd h1 h2 (fun r μ1 _ q => ?_)
  obtain ⟨rfl, rfl⟩ := q
  exact ⟨tS_10 hs x, ⟨h1, h2⟩, hq⟩
theorem r_isTray {A : Int → tm_M → Nat → Nat → Prop} {B : Int → tm_M → Nat → Nat → Prop} (hs : tS μ) (hd : 1 ≤ d) (h1 : nc ≤ mc) (h2 : ns ≤ ms) (hq : A (b2i (0 ≤ t ∧ t < 4)) μ nc ns) :
    rcl mX0_isTray [(0, t)] μ d mc ms nc ns (fun o μ1 nc1 ns1 => rk 0 o (fun r => A r μ1 nc1 ns1) (fun a => B a μ1 nc1 ns1)) := by
  refine rcl_I (d' := 0) (pX0_isTray (tFr.rf (W := w0) hs) (tWs_TC ⟨rfl, rfl⟩)) hd h1 h2 (fun r μ1 f q => ?_)
  rw [tFr_eq f, q]
  exact hq
def q_tray (μ : tm_M) (t s n : Int) : tQ := fun o μ1 => ∃ μa, o = .inl (some (0, b2i (s_tray t s n = 0))) ∧ (s_tray t s n ≠ 0 → (μa = μ ∨ μa = tm_a μ 12 0)) ∧ (s_tray t s n = 0 → μa = tm_w (tm_w (tm_a μ (yk s) n) (61 + t) 0 (tm_z μ)) (61 + t) 1 s) ∧ μ1 = tm_w μa 1 10 (s_tray t s n)
theorem pX0_tray (hd : 2 ≤ d) (hs : tS μ) : tC mX0_tray d 3 800 [(2, 1), (0, t), (0, s), (0, n)] μ (q_tray μ t s n) := by
  refine tC_of rfl (Nat.le_of_ble_eq_true rfl) (rX0_tray_0 hs ?_)
  refine r_isTray (A := fun r μ1 nc1 ns1 => tS μ1 ∧ _) hs (by omega) (by decide) (by decide) ⟨hs, ?_⟩
  have no : ∀ x, x ≠ 0 → s_tray t s n = x → q_tray μ t s n (.inl (some (0, b2i (x = 0)))) (tm_w μ 1 10 x) := by
    rintro x hx rfl
    exact ⟨μ, rfl, fun _ => Or.inl rfl, fun q => absurd q hx, rfl⟩
  refine ⟨fun c => r_is hs (by omega) (by decide) (by decide) (no 1 (by decide) ?_), fun c => ⟨fun c1 => r_is hs (by omega) (by decide) (by decide) (no 1 (by decide) ?_), fun c1 => ⟨fun c2 => ⟨fun c3 => ?_, fun c3 => r_is hs (by omega) (by decide) (by decide) (no 5 (by decide) ?_)⟩, fun c2 => r_is hs (by omega) (by decide) (by decide) (no 1 (by decide) ?_)⟩⟩⟩
  · have := b2i_0.mp c
    unfold s_tray
    rw [if_pos (by omega)]
  · unfold s_tray
    rw [if_pos (by omega)]
  · have ht := b2i_1.mp c
    refine ⟨ht, ?_⟩
    refine rcl_of (d' := d - 1) (pX5_make hs ht.1 ht.2 c1 c2 c3) (by omega) (by decide) (by decide) (fun o μ1 q => ?_)
    rcases q with ⟨h1, rfl, rfl⟩ | ⟨h1, rfl, rfl⟩
    · refine Or.inr ⟨_, rfl, ?_⟩
      have h6 : s_tray t s n = 6 := by unfold s_tray; rw [if_neg (by omega), if_neg (by omega), if_pos h1]
      refine t_catch (C := "java/lang/NegativeArraySizeException") (k := 12) (T0 := TJ3) (N := 0) rfl (by decide) (by rw [tm_ka, if_pos rfl]) (pre := []) (rest := []) (x := (34, 45, 48, 166)) rfl (fun y hy => by cases hy) (by decide) (by decide) q537 q557 (rX0_tray_48 (tS_a hs _ _) (r_is (tS_a hs _ _) (by omega) (by decide) (by decide) ?_))
      refine ⟨tm_a μ 12 0, by rw [h6], fun _ => Or.inr rfl, fun q => ?_, by rw [h6]⟩
      rw [h6] at q
      cases q
    · have h2 : tS (tm_w (tm_w (tm_a μ (yk s) n) (61 + t) 0 (tm_z μ)) (61 + t) 1 s) := tS_w (tS_w (tS_a hs _ _) (sf_tr ht.1 ht.2) _ _) (sf_tr ht.1 ht.2) _ _
      have h6 : s_tray t s n = 0 := by unfold s_tray; rw [if_neg (by omega), if_neg (by omega), if_neg (by omega)]
      refine Or.inl ⟨rfl, h2, r_is h2 (by omega) (by decide) (by decide) ⟨_, by rw [h6], fun q => absurd h6 q, fun _ => rfl, by rw [h6]⟩⟩
  · have := b2i_1.mp c
    unfold s_tray
    rw [if_neg (by omega), if_pos (by omega)]
  · unfold s_tray
    rw [if_pos (by omega)]
/-- the trays of the component, as far as reading and writing ask -/
theorem JY.T (h : JY μ ν) (t0 : 0 ≤ t) (t4 : t < 4) : yT μ t := by
  obtain ⟨hY, h1, -⟩ := h
  obtain ⟨a1, a2⟩ := h1 t t0 t4
  by_cases c : tm_v ν 67 t < 0
  · obtain ⟨b1, b2⟩ := a1 c
    exact ⟨t0, t4, by rw [b2]; decide, Or.inl b1⟩
  · obtain ⟨b1, b2, -⟩ := a2 (by omega)
    have := (hY t t0 t4).1
    exact ⟨t0, t4, by rw [b1]; exact this, Or.inr (by rw [b1]; exact b2)⟩
theorem JY.no (h : JY μ ν) (t0 : 0 ≤ t) (t4 : t < 4) (c : tm_v ν 67 t < 0) : c_Y μ t = 0 := ((h.2.1 t t0 t4).1 c).1
theorem JY.yes (h : JY μ ν) (t0 : 0 ≤ t) (t4 : t < 4) (c : 0 ≤ tm_v ν 67 t) : 1 ≤ c_Y μ t ∧ tm_n μ (c_Y μ t) = tm_v ν 67 t := ⟨((h.2.1 t t0 t4).2 c).2.1.1.1, ((h.2.1 t t0 t4).2 c).2.2.2.1⟩
theorem y_tr3 (t0 : 0 ≤ t) (t4 : t < 4) (c : tm_v ν 67 t < 0) : y_trayed ν t = 3 := by unfold y_trayed; rw [if_neg (by omega), if_pos c]
theorem y_tr0 (t0 : 0 ≤ t) (t4 : t < 4) (c : 0 ≤ tm_v ν 67 t) : y_trayed ν t = 0 := by unfold y_trayed; rw [if_neg (by omega), if_neg (by omega)]
theorem y_tr1 (h : ¬ (0 ≤ t ∧ t < 4)) : y_trayed ν t = 1 := by unfold y_trayed; rw [if_pos (by omega)]
def q_write (μ ν : tm_M) (t k v : Int) : tQ := fun o μ1 => ∃ μa, o = .inl (some (0, b2i (y_placed ν t k = 0))) ∧ (y_placed ν t k ≠ 0 → (μa = μ ∨ μa = tm_a μ 13 0 ∨ μa = tm_a μ 14 0)) ∧ (y_placed ν t k = 0 → μa = tm_w μ (c_Y μ t) k (y_cut (tm_v ν 66 t) v)) ∧ μ1 = tm_w μa 1 10 (y_placed ν t k)
theorem pX0_write (hd : 2 ≤ d) (hs : tS μ) (hY : JY μ ν) : tC mX0_write d 3 800 [(2, 1), (0, t), (0, k), (1, v)] μ (q_write μ ν t k v) := by
  refine tC_of rfl (Nat.le_of_ble_eq_true rfl) (rX0_write_0 hs ?_)
  refine r_isTray (A := fun r μ1 nc1 ns1 => tS μ1 ∧ _) hs (by omega) (by decide) (by decide) ⟨hs, fun c => ?_, fun c => r_is hs (by omega) (by decide) (by decide) ?_⟩
  · have ht := b2i_1.mp c
    refine ⟨ht, rcl_of (d' := d - 1) (pX5_set hs (hY.T ht.1 ht.2)) (by omega) (by decide) (by decide) (fun o μ1 q => ?_)⟩
    rcases q with ⟨h1, rfl, rfl⟩ | ⟨h1, h2, rfl, rfl⟩ | ⟨h1, h2, rfl, rfl⟩
    · have hn : tm_v ν 67 t < 0 := by
        by_cases c : tm_v ν 67 t < 0
        · exact c
        · have := hY.yes ht.1 ht.2 (by omega); omega
      have h6 : y_placed ν t k = 3 := by rw [y_placed, y_tr3 ht.1 ht.2 hn]; rfl
      refine Or.inr ⟨_, rfl, t_catch (C := "java/lang/NullPointerException") (k := 13) (T0 := TJ5) (N := 0) rfl (by decide) (by rw [tm_ka, if_pos rfl]) (pre := []) (rest := [(13, 24, 35, 174)]) (x := (13, 24, 27, 172)) rfl (fun y hy => by cases hy) (by decide) (by decide) q580 q602 (rX0_write_27 (tS_a hs _ _) (r_is (tS_a hs _ _) (by omega) (by decide) (by decide) ?_))⟩
      exact ⟨_, by rw [h6], fun _ => Or.inr (Or.inl rfl), fun q => absurd (h6.symm.trans q) (by decide), by rw [h6]⟩
    · have hn : 0 ≤ tm_v ν 67 t := by
        by_cases c : tm_v ν 67 t < 0
        · have := hY.no ht.1 ht.2 c; omega
        · omega
      have hl := (hY.yes ht.1 ht.2 hn).2
      have h6 : y_placed ν t k = 4 := by rw [y_placed, y_tr0 ht.1 ht.2 hn, if_neg (by decide), if_pos (by omega)]
      refine Or.inr ⟨_, rfl, t_catch (C := "java/lang/ArrayIndexOutOfBoundsException") (k := 14) (T0 := TJ7) (N := 0) rfl (by decide) (by rw [tm_ka, if_pos rfl]) (pre := [(13, 24, 27, 172)]) (rest := []) (x := (13, 24, 35, 174)) rfl (fun y hy => Or.inr ?_) (by decide) (by decide) q605 q620 (rX0_write_35 (tS_a hs _ _) (r_is (tS_a hs _ _) (by omega) (by decide) (by decide) ?_))⟩
      · rw [List.mem_singleton.mp hy]
        exact ⟨by decide, _, q580, t_nc1⟩
      · exact ⟨_, by rw [h6], fun _ => Or.inr (Or.inr rfl), fun q => absurd (h6.symm.trans q) (by decide), by rw [h6]⟩
    · have hn : 0 ≤ tm_v ν 67 t := by
        by_cases c : tm_v ν 67 t < 0
        · have := hY.no ht.1 ht.2 c; omega
        · omega
      have hl := (hY.yes ht.1 ht.2 hn).2
      have h6 : y_placed ν t k = 0 := by rw [y_placed, y_tr0 ht.1 ht.2 hn, if_neg (by decide), if_neg (by omega)]
      have hst : tm_v μ (61 + t) 1 = tm_v ν 66 t := ((hY.2.1 t ht.1 ht.2).2 hn).1
      have hob := ((hY.2.1 t ht.1 ht.2).2 hn).2.1
      have h2 : tS (tm_w μ (c_Y μ t) k (y_cut (tm_v μ (61 + t) 1) v)) := tS_w hs (dy_tfr hob.2) _ _
      refine Or.inl ⟨rfl, h2, r_is h2 (by omega) (by decide) (by decide) ⟨tm_w μ (c_Y μ t) k (y_cut (tm_v μ (61 + t) 1) v), by rw [h6], fun q => absurd h6 q, fun _ => by rw [hst], by rw [h6]⟩⟩
  · have := b2i_0.mp c
    have h6 : y_placed ν t k = 1 := by rw [y_placed, y_tr1 this]; rfl
    exact ⟨μ, by rw [h6], fun _ => Or.inl rfl, fun q => absurd (h6.symm.trans q) (by decide), by rw [h6]⟩
def q_read (μ ν : tm_M) (t k : Int) : tQ := fun o μ1 => ∃ μa, o = .inl (some (1, if 0 < y_placed ν t k then -1 else tm_v ν 68 (64 * t + k))) ∧ (μa = μ ∨ μa = tm_a μ 13 0 ∨ μa = tm_a μ 14 0) ∧ tFr (tWs [] [(1, 10)]) μa μ1 ∧ tm_v μ1 1 10 = y_placed ν t k
theorem JY_10 (h : JY μ ν) {ν' : tm_M} (hJ : JU μ ν') (hs : tS μ) (x : Int) : JY (tm_w μ 1 10 x) ν := JY_F hJ h (tFr.w (tFr.rf (W := tWs [] [(1, 10)]) hs) (tWs_inF rfl) (tS_10 hs x)) (tWs_TC ⟨rfl, rfl⟩) (tWs_YC rfl)
theorem pX0_read (hd : 2 ≤ d) (hs : tS μ) {ν' : tm_M} (hJ : JU μ ν') (hY : JY μ ν) : tC mX0_read d 3 800 [(2, 1), (0, t), (0, k)] μ (q_read μ ν t k) := by
  refine tC_of rfl (Nat.le_of_ble_eq_true rfl) (rX0_read_0 hs ?_)
  refine r_isTray (A := fun r μ1 nc1 ns1 => tS μ1 ∧ _) hs (by omega) (by decide) (by decide) ⟨hs, fun c => ?_, fun c => r_none hs (by omega) (by decide) (by decide) ?_⟩
  · have ht := b2i_1.mp c
    rintro μ4 rfl
    have hs4 := tS_10 hs 0
    have hY4 := JY_10 hY hJ hs 0
    have eY : c_Y (tm_w μ 1 10 0) t = c_Y μ t := by unfold c_Y; rw [tm_vw, if_neg (by omega)]
    have fr : ∀ (μa : tm_M) (x : Int), tS μa → tFr (tWs [] [(1, 10)]) μa (tm_w μa 1 10 x) := fun μa x h => tFr.w (tFr.rf h) (tWs_inF rfl) (tS_10 h x)
    have sw : ∀ k0 x, tm_w (tm_a (tm_w μ 1 10 0) k0 0) 1 10 x = tm_w (tm_a μ k0 0) 1 10 x := by
      intro k0 x
      unfold tm_w tm_a
      dsimp only
      congr 3
      funext b i
      split
      · rfl
      · rename_i e1
        split
        · rfl
        · rfl
    refine ⟨hs4, ht, rcl_of (d' := d - 1) (pX5_getT hs4 (hY4.T ht.1 ht.2)) (by omega) (by decide) (by decide) (fun o μ1 q => ?_)⟩
    rcases q with ⟨h1, rfl, rfl⟩ | ⟨h1, h2, rfl, rfl⟩ | ⟨h1, h2, rfl, rfl⟩
    · have hn : tm_v ν 67 t < 0 := by
        by_cases c : tm_v ν 67 t < 0
        · exact c
        · have := hY4.yes ht.1 ht.2 (by omega); omega
      have h6 : y_placed ν t k = 3 := by rw [y_placed, y_tr3 ht.1 ht.2 hn]; rfl
      refine Or.inr ⟨_, rfl, t_catch (C := "java/lang/NullPointerException") (k := 13) (T0 := TJ5) (N := 0) rfl (by decide) (by rw [tm_ka, if_pos rfl]) (pre := []) (rest := [(19, 29, 39, 174)]) (x := (19, 29, 30, 172)) rfl (fun y hy => by cases hy) (by decide) (by decide) q580 q602 (rX0_read_30 (tS_a hs4 _ _) ?_)⟩
      rintro μ1 rfl
      refine ⟨tS_10 (tS_a hs4 _ _) 3, by decide, tm_a μ 13 0, by rw [h6]; rfl, Or.inr (Or.inl rfl), ?_, by rw [h6, tm_vw, if_pos ⟨rfl, rfl⟩]⟩
      rw [sw]
      exact fr _ _ (tS_a hs _ _)
    · have hn : 0 ≤ tm_v ν 67 t := by
        by_cases c : tm_v ν 67 t < 0
        · have := hY4.no ht.1 ht.2 c; omega
        · omega
      have hl := (hY4.yes ht.1 ht.2 hn).2
      have h6 : y_placed ν t k = 4 := by rw [y_placed, y_tr0 ht.1 ht.2 hn, if_neg (by decide), if_pos (by omega)]
      refine Or.inr ⟨_, rfl, t_catch (C := "java/lang/ArrayIndexOutOfBoundsException") (k := 14) (T0 := TJ7) (N := 0) rfl (by decide) (by rw [tm_ka, if_pos rfl]) (pre := [(19, 29, 30, 172)]) (rest := []) (x := (19, 29, 39, 174)) rfl (fun y hy => Or.inr ?_) (by decide) (by decide) q605 q620 (rX0_read_39 (tS_a hs4 _ _) ?_)⟩
      · rw [List.mem_singleton.mp hy]
        exact ⟨by decide, _, q580, t_nc1⟩
      · rintro μ1 rfl
        refine ⟨tS_10 (tS_a hs4 _ _) 4, by decide, tm_a μ 14 0, by rw [h6]; rfl, Or.inr (Or.inr rfl), ?_, by rw [h6, tm_vw, if_pos ⟨rfl, rfl⟩]⟩
        rw [sw]
        exact fr _ _ (tS_a hs _ _)
    · have hn : 0 ≤ tm_v ν 67 t := by
        by_cases c : tm_v ν 67 t < 0
        · have := hY4.no ht.1 ht.2 c; omega
        · omega
      have hl := (hY4.yes ht.1 ht.2 hn).2
      have h6 : y_placed ν t k = 0 := by rw [y_placed, y_tr0 ht.1 ht.2 hn, if_neg (by decide), if_neg (by omega)]
      have hv : tm_v (tm_w μ 1 10 0) (c_Y (tm_w μ 1 10 0) t) k = tm_v ν 68 (64 * t + k) := ((hY4.2.1 t ht.1 ht.2).2 hn).2.2.2.2 k h2.1 (by omega)
      refine Or.inl ⟨_, rfl, hs4, by decide, μ, ?_, Or.inl rfl, fr _ _ hs, by rw [h6, tm_vw, if_pos ⟨rfl, rfl⟩]⟩
      rw [h6, if_neg (by decide), hv]
  · have := b2i_0.mp c
    have h6 : y_placed ν t k = 1 := by rw [y_placed, y_tr1 this]; rfl
    refine ⟨μ, by rw [h6]; rfl, Or.inl rfl, tFr.w (tFr.rf hs) (tWs_inF rfl) (tS_10 hs 1), by rw [h6, tm_vw, if_pos ⟨rfl, rfl⟩]⟩
end C0TR
