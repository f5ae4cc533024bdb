/-! CONTRACTS of the model: trays -/
section C6K
variable {d : Nat} {μ μ0 : tm_M} {W : Int → Int → Prop}
def s_tray (t s n : Int) : Int := if t < 0 ∨ 4 ≤ t ∨ s < 0 ∨ 3 < s then 1 else if 64 < n then 5 else if n < 0 then 6 else 0
/-- a tray made anew; or not -/
def o_tray (μ : tm_M) (t s n r : Int) (μ' : tm_M) : Prop := tm_v μ' 65 0 = s_tray t s n ∧ r = (if s_tray t s n = 0 then 1 else 0) ∧ tm_v μ' 66 = (if s_tray t s n = 0 then fup (tm_v μ 66) t s else tm_v μ 66) ∧ tm_v μ' 67 = (if s_tray t s n = 0 then fup (tm_v μ 67) t n else tm_v μ 67) ∧
  tm_v μ' 68 = (fun x => if s_tray t s n = 0 ∧ 64 * t ≤ x ∧ x < 64 * t + n then 0 else tm_v μ 68 x)
theorem o_tray_no {t s n x : Int} (h : s_tray t s n = x) (hx : x ≠ 0) : o_tray μ t s n 0 (tm_w (tm_w (tm_w μ 65 1 0) 65 0 0) 65 0 x) := by
  have e : ∀ a, a ≠ 65 → tm_v (tm_w (tm_w (tm_w μ 65 1 0) 65 0 0) 65 0 x) a = tm_v μ a := by
    intro a ha
    funext i
    rw [tm_vw, if_neg (fun q => ha q.1), tm_vw, if_neg (fun q => ha q.1), tm_vw, if_neg (fun q => ha q.1)]
  unfold o_tray
  rw [h, if_neg hx, if_neg hx, if_neg hx, e 66 (by decide), e 67 (by decide), e 68 (by decide)]
  refine ⟨by simp [tm_vw], rfl, rfl, rfl, ?_⟩
  funext i
  rw [if_neg (fun q => hx q.1)]
theorem pX6_tray {t s n : Int} (hd : 1 ≤ d) (hs : tS μ) : cI wX6_tray mX6_tray d [(2, 65), (0, t), (0, s), (0, n)] μ (o_tray μ t s n) := by
  have loop : (0 ≤ t ∧ t < 4) → s_tray t s n = 0 → n ≤ 64 → ∀ (k : Nat) (i : Int) (m : tm_M), 0 ≤ i → i + k = n → tFr wX6_tray μ m → tm_v m 65 0 = 0 → tm_v m 66 = fup (tm_v μ 66) t s → tm_v m 67 = fup (tm_v μ 67) t n → (∀ x, tm_v m 68 x = if 64 * t ≤ x ∧ x < 64 * t + i then 0 else tm_v μ 68 x) →
      hI wX6_tray μ mX6_tray d (o_tray μ t s n) 74 [(0, 2, 65), (1, 0, t), (3, 0, n), (4, 0, i)] [] m := by
    intro ht hz hn k
    induction k with
    | zero =>
      intro i m i0 ik hm h0 h1 h2 h3
      refine uX6_tray_74 hm ⟨fun c => ?_, fun c => by omega⟩
      unfold o_tray
      rw [hz]
      refine ⟨h0, rfl, h1, h2, ?_⟩
      funext x
      rw [h3 x, show i = n by omega]
      by_cases e : 64 * t ≤ x ∧ x < 64 * t + n
      · rw [if_pos e, if_pos ⟨rfl, e⟩]
      · rw [if_neg e, if_neg (fun q => e q.2)]
    | succ k ih =>
      intro i m i0 ik hm h0 h1 h2 h3
      refine uX6_tray_74 hm ⟨fun c => by omega, fun c => ?_⟩
      rw [w32_id (x := 64 * t) (by omega) (by omega), w32_id (x := 64 * t + i) (by omega) (by omega), w32_id (x := i + 1) (by omega) (by omega)]
      refine ⟨by omega, ?_⟩
      rintro _ rfl
      refine ih (i + 1) _ (by omega) (by omega) (hm.w (tWs_in _ rfl) (tS_w hm.S sf_68 _ _)) ?_ ?_ ?_ ?_
      · rw [tm_vw, if_neg (by omega)]; exact h0
      · rw [← h1]; funext x; rw [tm_vw, if_neg (by omega)]
      · rw [← h2]; funext x; rw [tm_vw, if_neg (by omega)]
      · intro x
        rw [tm_vw, h3]
        by_cases e : x = 64 * t + i
        · rw [if_pos ⟨rfl, e⟩, if_pos (by omega)]
        · rw [if_neg (fun q => e q.2)]
          by_cases e2 : 64 * t ≤ x ∧ x < 64 * t + i
          · rw [if_pos e2, if_pos (by omega)]
          · rw [if_neg e2, if_neg (by omega)]
  refine t_of (uX6_tray_0 hd (tFr.rf hs) ?_)
  rintro _ rfl _ rfl
  have f2 : tFr wX6_tray μ (tm_w (tm_w μ 65 1 0) 65 0 0) := fr_st (tFr.rf hs) (tWs_inF rfl) (tWs_inF rfl) 0
  refine ⟨fun c => ?_, fun c => ⟨fun c2 => ?_, fun c2 => ⟨fun c3 => ?_, fun c3 => ⟨fun c4 => ⟨fun c5 => ⟨fun c6 => ⟨by omega, ?_⟩, fun c6 => ?_⟩, fun c5 => ?_⟩, fun c4 => ?_⟩⟩⟩⟩
  · rintro _ rfl; exact o_tray_no (by unfold s_tray; rw [if_pos (by omega)]) (by decide)
  · rintro _ rfl; exact o_tray_no (by unfold s_tray; rw [if_pos (by omega)]) (by decide)
  · rintro _ rfl; exact o_tray_no (by unfold s_tray; rw [if_pos (by omega)]) (by decide)
  · rintro _ rfl _ rfl
    have f3 := f2.w (j := t) (x := s) (tWs_in (a := 66) _ rfl) (tS_w f2.S sf_66 _ _)
    have f4 := f3.w (j := t) (x := n) (tWs_in (a := 67) _ rfl) (tS_w f3.S sf_67 _ _)
    refine loop (by omega) (by unfold s_tray; rw [if_neg (by omega), if_neg (by omega), if_neg (by omega)]) c5 n.toNat 0 _ (by omega) (by omega) f4 ?_ ?_ ?_ ?_
    · simp [tm_vw]
    · funext x; simp [tm_vw, fup]
    · funext x; simp [tm_vw, fup]
    · intro x
      rw [if_neg (by omega)]
      simp [tm_vw]
  · rintro _ rfl; exact o_tray_no (by unfold s_tray; rw [if_neg (by omega), if_neg (by omega), if_pos (by omega)]) (by decide)
  · rintro _ rfl; exact o_tray_no (by unfold s_tray; rw [if_neg (by omega), if_pos (by omega)]) (by decide)
  · rintro _ rfl; exact o_tray_no (by unfold s_tray; rw [if_pos (by omega)]) (by decide)
/-- trays are well made -/
def y_Y (μ : tm_M) : Prop := ∀ t, 0 ≤ t → t < 4 → (0 ≤ tm_v μ 66 t ∧ tm_v μ 66 t ≤ 3) ∧ (-1 ≤ tm_v μ 67 t ∧ tm_v μ 67 t ≤ 64) ∧ ∀ k, 0 ≤ k → k < tm_v μ 67 t → y_cut (tm_v μ 66 t) (tm_v μ 68 (64 * t + k)) = tm_v μ 68 (64 * t + k) ∧ -9223372036854775808 ≤ tm_v μ 68 (64 * t + k) ∧ tm_v μ 68 (64 * t + k) ≤ 9223372036854775807
theorem y_placed_0 {t k : Int} (h : y_placed μ t k ≤ 0) : (0 ≤ t ∧ t < 4) ∧ 0 ≤ k ∧ k < tm_v μ 67 t := by
  unfold y_placed at h
  split at h
  · omega
  · rename_i c
    have := y_trayed_in (μ := μ) (t := t) (by omega)
    split at h <;> omega
theorem y_placed_w {t k x y : Int} : y_placed (tm_w μ 65 x y) t k = y_placed μ t k := by
  have e : ∀ i, tm_v (tm_w μ 65 x y) 67 i = tm_v μ 67 i := fun i => by rw [tm_vw, if_neg (by omega)]
  unfold y_placed y_trayed
  simp only [e]
def o_write (μ : tm_M) (t k v r : Int) (μ' : tm_M) : Prop := tm_v μ' 65 0 = y_placed μ t k ∧ r = (if 0 < y_placed μ t k then 0 else 1) ∧ tm_v μ' 68 = if 0 < y_placed μ t k then tm_v μ 68 else fup (tm_v μ 68) (64 * t + k) (y_cut (tm_v μ 66 t) v)
theorem pX6_write {t k v : Int} (hd : 2 ≤ d) (hs : tS μ) (hY : y_Y μ) : cI wX6_write mX6_write d [(2, 65), (0, t), (0, k), (1, v)] μ (o_write μ t k v) := by
  refine t_of (uX6_write_0 (by omega) (tFr.rf hs) ?_)
  rintro _ rfl
  have f1 : tFr wX6_write μ (tm_w μ 65 1 0) := (tFr.rf hs).w (tWs_inF rfl) (tS_wj hs _ (by decide))
  refine tC.I (pX6_placed (by omega) f1.S) ?_
  rintro r m fm rfl
  rw [fm.same, y_placed_w]
  rintro _ rfl
  have e0 : tm_v (tm_w (tm_w μ 65 1 0) 65 0 (y_placed μ t k)) 65 0 = y_placed μ t k := by simp [tm_vw]
  rw [e0]
  unfold o_write
  refine ⟨fun c => ?_, fun c => ?_⟩
  · have h := y_placed_0 c
    have h64 := (hY t h.1.1 h.1.2).2.1
    rw [w32_id (x := 64 * t) (by omega) (by omega), w32_id (x := 64 * t + k) (by omega) (by omega)]
    refine ⟨h.1, by omega, ?_⟩
    rintro _ rfl
    rw [if_neg (by omega), if_neg (by omega)]
    refine ⟨?_, rfl, ?_⟩
    · rw [tm_vw, if_neg (by omega), e0]
    · funext x; simp [tm_vw, fup]
  · rw [if_pos c, if_pos c]
    refine ⟨e0, rfl, ?_⟩
    funext x; simp [tm_vw]
def o_read (μ : tm_M) (t k r : Int) (μ' : tm_M) : Prop := tm_v μ' 65 0 = y_placed μ t k ∧ r = if 0 < y_placed μ t k then -1 else tm_v μ 68 (64 * t + k)
theorem pX6_read {t k : Int} (hd : 2 ≤ d) (hs : tS μ) (hY : y_Y μ) : cL wX6_read mX6_read d [(2, 65), (0, t), (0, k)] μ (o_read μ t k) := by
  refine t_of (uX6_read_0 (by omega) (tFr.rf hs) ?_)
  rintro _ rfl
  have f1 : tFr wX6_read μ (tm_w μ 65 1 0) := (tFr.rf hs).w (tWs_inF rfl) (tS_wj hs _ (by decide))
  refine tC.I (pX6_placed (by omega) f1.S) ?_
  rintro r m fm rfl
  rw [fm.same, y_placed_w]
  rintro _ rfl
  have e0 : tm_v (tm_w (tm_w μ 65 1 0) 65 0 (y_placed μ t k)) 65 0 = y_placed μ t k := by simp [tm_vw]
  rw [e0]
  unfold o_read
  refine ⟨fun c => ?_, fun c => ?_⟩
  · have h := y_placed_0 c
    have h64 := (hY t h.1.1 h.1.2).2.1
    rw [w32_id (x := 64 * t) (by omega) (by omega), w32_id (x := 64 * t + k) (by omega) (by omega)]
    rw [if_neg (by omega)]
    exact ⟨by omega, e0, rfl⟩
  · rw [if_pos c]
    exact ⟨e0, rfl⟩
def s_pour (μ : tm_M) (t i u j n : Int) : Int := if t < 0 ∨ 4 ≤ t ∨ u < 0 ∨ 4 ≤ u then 1 else if tm_v μ 67 t < 0 ∨ tm_v μ 67 u < 0 then 3 else if tm_v μ 66 t ≠ tm_v μ 66 u then 11 else if n < 0 then 6 else if i < 0 ∨ j < 0 ∨ tm_v μ 67 t < i + n ∨ tm_v μ 67 u < j + n then 4 else 0
def o_pour (μ : tm_M) (t i u j n r : Int) (μ' : tm_M) : Prop := tm_v μ' 65 0 = s_pour μ t i u j n ∧ r = (if s_pour μ t i u j n = 0 then 1 else 0) ∧ tm_v μ' 68 = (fun x => if s_pour μ t i u j n = 0 ∧ 64 * u + j ≤ x ∧ x < 64 * u + j + n then tm_v μ 68 (64 * t + i + (x - (64 * u + j))) else tm_v μ 68 x)
theorem o_pour_no {t i u j n x : Int} (h : s_pour μ t i u j n = x) (hx : x ≠ 0) : o_pour μ t i u j n 0 (tm_w (tm_w (tm_w μ 65 1 0) 65 0 0) 65 0 x) := by
  unfold o_pour
  rw [h, if_neg hx]
  refine ⟨by simp [tm_vw], rfl, ?_⟩
  funext i
  rw [if_neg (fun q => hx q.1)]
  simp [tm_vw]
theorem pX6_pour {t i u j n : Int} (hd : 1 ≤ d) (hs : tS μ) (hY : y_Y μ) (hr : (-2147483648 ≤ i ∧ i ≤ 2147483647) ∧ (-2147483648 ≤ j ∧ j ≤ 2147483647) ∧ -2147483648 ≤ n ∧ n ≤ 2147483647) : cI wX6_pour mX6_pour d [(2, 65), (0, t), (0, i), (0, u), (0, j), (0, n)] μ (o_pour μ t i u j n) := by
  have loop : (0 ≤ t ∧ t < 4) → (0 ≤ u ∧ u < 4) → s_pour μ t i u j n = 0 → (0 ≤ i ∧ i + n ≤ 64) → (0 ≤ j ∧ j + n ≤ 64) → ∀ (q : Nat) (k v6 : Int) (m : tm_M), 0 ≤ k → k + q = n → (v6 = 0 ∧ j ≤ i ∨ v6 = 1 ∧ i < j) → tFr wX6_pour μ m → tm_v m 65 0 = 0 →
      (∀ x, tm_v m 68 x = if (v6 = 0 ∧ 64 * u + j ≤ x ∧ x < 64 * u + j + k) ∨ (v6 = 1 ∧ 64 * u + j + n - k ≤ x ∧ x < 64 * u + j + n) then tm_v μ 68 (64 * t + i + (x - (64 * u + j))) else tm_v μ 68 x) →
      hI wX6_pour μ mX6_pour d (o_pour μ t i u j n) 158 [(0, 2, 65), (1, 0, t), (2, 0, i), (3, 0, u), (4, 0, j), (5, 0, n), (6, 0, v6), (7, 0, k)] [] m := by
    intro ht hu hz hi hj q
    induction q with
    | zero =>
      intro k v6 m k0 kn hv hm h0 h1
      refine uX6_pour_158 hm ⟨fun c => ?_, fun c => by omega⟩
      unfold o_pour
      rw [hz]
      refine ⟨h0, rfl, ?_⟩
      funext x
      rw [h1 x]
      by_cases e : 64 * u + j ≤ x ∧ x < 64 * u + j + n
      · rw [if_pos (by omega), if_pos ⟨rfl, e⟩]
      · rw [if_neg (by omega), if_neg (fun q => e q.2)]
    | succ q ih =>
      intro k v6 m k0 kn hv hm h0 h1
      have e1 : w32 (w32 (64 * t) + i) = 64 * t + i := by rw [w32_id (x := 64 * t) (by omega) (by omega), w32_id (by omega) (by omega)]
      have e2 : w32 (w32 (64 * u) + j) = 64 * u + j := by rw [w32_id (x := 64 * u) (by omega) (by omega), w32_id (by omega) (by omega)]
      have e3 : w32 (k + 1) = k + 1 := w32_id (by omega) (by omega)
      refine uX6_pour_158 hm ⟨fun c => by omega, fun c => ?_⟩
      rw [e1, e2, e3]
      refine ⟨fun c6 => ?_, fun c6 => ?_⟩
      · have hv0 : v6 = 0 ∧ j ≤ i := by omega
        rw [w32_id (x := 64 * t + i + k) (by omega) (by omega), w32_id (x := 64 * u + j + k) (by omega) (by omega)]
        refine ⟨by omega, by omega, ?_⟩
        rintro _ rfl
        refine ih (k + 1) v6 _ (by omega) (by omega) hv (hm.w (tWs_in _ rfl) (tS_w hm.S sf_68 _ _)) (by rw [tm_vw, if_neg (by omega)]; exact h0) ?_
        intro x
        rw [tm_vw, h1, h1]
        by_cases e : x = 64 * u + j + k
        · rw [if_pos ⟨rfl, e⟩, if_neg (by omega), if_pos (by omega), e]
          congr 1
          omega
        · rw [if_neg (fun q => e q.2)]
          by_cases e4 : 64 * u + j ≤ x ∧ x < 64 * u + j + k
          · rw [if_pos (by omega), if_pos (by omega)]
          · rw [if_neg (by omega), if_neg (by omega)]
      · have hv1 : v6 = 1 ∧ i < j := by omega
        rintro _ rfl
        rw [w32_id (x := n - 1) (by omega) (by omega), w32_id (x := n - 1 - k) (by omega) (by omega), w32_id (x := 64 * t + i + (n - 1 - k)) (by omega) (by omega), w32_id (x := 64 * u + j + (n - 1 - k)) (by omega) (by omega)]
        refine ⟨by omega, by omega, ?_⟩
        rintro _ rfl
        refine ih (k + 1) v6 _ (by omega) (by omega) hv (hm.w (tWs_in _ rfl) (tS_w hm.S sf_68 _ _)) (by rw [tm_vw, if_neg (by omega)]; exact h0) ?_
        intro x
        rw [tm_vw, h1, h1]
        by_cases e : x = 64 * u + j + (n - 1 - k)
        · rw [if_pos ⟨rfl, e⟩, if_neg (by omega), if_pos (by omega), e]
          congr 1
          omega
        · rw [if_neg (fun q => e q.2)]
          by_cases e4 : 64 * u + j + n - k ≤ x ∧ x < 64 * u + j + n
          · rw [if_pos (by omega), if_pos (by omega)]
          · rw [if_neg (by omega), if_neg (by omega)]
  refine t_of (uX6_pour_0 hd (tFr.rf hs) ?_)
  rintro _ rfl _ rfl
  have f2 : tFr wX6_pour μ (tm_w (tm_w μ 65 1 0) 65 0 0) := fr_st (tFr.rf hs) (tWs_inF rfl) (tWs_inF rfl) 0
  rw [w64_id (x := i + n) (by omega) (by omega), w64_id (x := j + n) (by omega) (by omega)]
  refine ⟨fun c => ?_, fun c => ⟨fun c2 => ?_, fun c2 => ⟨fun c3 => ?_, fun c3 => ⟨fun c4 => ⟨by omega, fun c5 => ?_, fun c5 => ⟨by omega, fun c6 => ⟨fun c7 => ⟨fun c8 => ⟨fun c9 => ?_, fun c9 => ⟨fun c10 => ?_, fun c10 => ⟨fun c11 => ?_, fun c11 => ⟨fun c12 => ⟨fun c13 => ?_, fun c13 => ?_⟩, fun c12 => ?_⟩⟩⟩⟩, fun c8 => ?_⟩, fun c7 => ?_⟩, fun c6 => ?_⟩⟩, fun c4 => ?_⟩⟩⟩⟩
  · rintro _ rfl; exact o_pour_no (by unfold s_pour; rw [if_pos (by omega)]) (by decide)
  · rintro _ rfl; exact o_pour_no (by unfold s_pour; rw [if_pos (by omega)]) (by decide)
  · rintro _ rfl; exact o_pour_no (by unfold s_pour; rw [if_pos (by omega)]) (by decide)
  · rintro _ rfl; exact o_pour_no (by unfold s_pour; rw [if_neg (by omega), if_pos (by omega)]) (by decide)
  · rintro _ rfl; exact o_pour_no (by unfold s_pour; rw [if_neg (by omega), if_neg (by omega), if_neg (by omega), if_neg (by omega), if_pos (by omega)]) (by decide)
  · rintro _ rfl; exact o_pour_no (by unfold s_pour; rw [if_neg (by omega), if_neg (by omega), if_neg (by omega), if_neg (by omega), if_pos (by omega)]) (by decide)
  · rintro _ rfl; exact o_pour_no (by unfold s_pour; rw [if_neg (by omega), if_neg (by omega), if_neg (by omega), if_neg (by omega), if_pos (by omega)]) (by decide)
  · have ht := (hY t c c2).2.1
    have hu := (hY u c3 c4).2.1
    refine loop ⟨c, c2⟩ ⟨c3, c4⟩ (by unfold s_pour; rw [if_neg (by omega), if_neg (by omega), if_neg (by omega), if_neg (by omega), if_neg (by omega)]) (by omega) (by omega) n.toNat 0 0 _ (by omega) (by omega) (Or.inl ⟨rfl, c13⟩) f2 (by simp [tm_vw]) ?_
    intro x
    rw [if_neg (by omega)]
    simp [tm_vw]
  · have ht := (hY t c c2).2.1
    have hu := (hY u c3 c4).2.1
    refine loop ⟨c, c2⟩ ⟨c3, c4⟩ (by unfold s_pour; rw [if_neg (by omega), if_neg (by omega), if_neg (by omega), if_neg (by omega), if_neg (by omega)]) (by omega) (by omega) n.toNat 0 1 _ (by omega) (by omega) (Or.inr ⟨rfl, c13⟩) f2 (by simp [tm_vw]) ?_
    intro x
    rw [if_neg (by omega)]
    simp [tm_vw]
  · rintro _ rfl; exact o_pour_no (by unfold s_pour; rw [if_neg (by omega), if_neg (by omega), if_neg (by omega), if_neg (by omega), if_pos (by omega)]) (by decide)
  · rintro _ rfl; exact o_pour_no (by unfold s_pour; rw [if_neg (by omega), if_neg (by omega), if_neg (by omega), if_pos (by omega)]) (by decide)
  · rintro _ rfl; exact o_pour_no (by unfold s_pour; rw [if_neg (by omega), if_neg (by omega), if_pos (by omega)]) (by decide)
  · rintro _ rfl; exact o_pour_no (by unfold s_pour; rw [if_neg (by omega), if_pos (by omega)]) (by decide)
  · rintro _ rfl; exact o_pour_no (by unfold s_pour; rw [if_pos (by omega)]) (by decide)
end C6K
