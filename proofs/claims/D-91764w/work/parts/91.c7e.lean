/-! CONTRACTS of the model: small parts of the reading -/
section C7E
variable {d : Nat} {μ μ0 : tm_M} {W : Int → Int → Prop} {tx : Int → Int} {n : Int} {t : TK}
/-- the text that is read -/
def tp (tx : Int → Int) (n : Int) (m : tm_M) : Prop := y_X m ∧ tm_v m 65 9 = n ∧ y_tx m = tx
/-- a fault is found -/
def bdP (m : tm_M) (e : Int × Int) : Prop := tm_v m 65 12 = e.1 ∧ 0 < e.1 ∧ tm_v m 65 13 = e.2
/-- a token is at hand, no fault -/
def okP (tx : Int → Int) (n : Int) (m : tm_M) (t : TK) : Prop := tp tx n m ∧ tm_v m 65 12 = 0 ∧ hasT m t ∧ 0 ≤ ken t ∧ ken t ≤ n
def tpW (W : Int → Int → Prop) : Prop := (∀ k, ¬ W 69 k) ∧ ¬ W 65 9
theorem tp_F (hs : tFr W μ0 μ) (hW : tpW W) (h : tp tx n μ0) : tp tx n μ := by
  have e : ∀ k, tm_v μ 69 k = tm_v μ0 69 k := fun k => hs.v (hW.1 k)
  refine ⟨⟨fun k => by rw [e]; exact h.1.1 k, by rw [hs.v hW.2]; exact h.1.2⟩, by rw [hs.v hW.2]; exact h.2.1, ?_⟩
  rw [← h.2.2]
  funext k
  unfold y_tx
  rw [e]
theorem hasT_F (hs : tFr W μ0 μ) (h4 : ¬ W 65 14) (h5 : ¬ W 65 15) (h6 : ¬ W 65 16) (h7 : ¬ W 65 17) (h8 : ¬ W 65 18) (h9 : ¬ W 65 19) (h : hasT μ0 t) : hasT μ t := by
  unfold hasT at *
  rw [hs.v h4, hs.v h5, hs.v h6, hs.v h7, hs.v h8, hs.v h9]
  exact h
theorem tpW_next : tpW wX6_next := ⟨fun k => tWs_no _ rfl, tWs_noF rfl⟩
theorem tpW_fail : tpW wX6_fail := ⟨fun k => tWs_no _ rfl, tWs_noF rfl⟩
theorem pX6_nextK (hd : 1 ≤ d) (hs : tS μ) (h : okP tx n μ t) : cV wX6_next mX6_next d [(2, 65)] μ (fun m => okP tx n m (tok tx n (ken t)) ∧ (kso (tok tx n (ken t)) ≠ 0 → ken t < ken (tok tx n (ken t)))) := by
  obtain ⟨h1, h2, h3, h4, h5⟩ := h
  have e16 : tm_v μ 65 16 = ken t := h3.2.2.1
  refine tC.V (pX6_next hd hs h1.1 (by rw [e16, h1.2.1]; exact ⟨h4, h5⟩)) ?_
  intro m fm hm
  rw [h1.2.2, h1.2.1, e16] at hm
  have hk := tok_in (tx := tx) (n := n) (b := ken t) h5
  exact ⟨⟨tp_F fm tpW_next h1, by rw [fm.v (tWs_noF rfl)]; exact h2, hm, by omega, by omega⟩, fun hne => by have := hk.2.2.2 hne; omega⟩
theorem pX6_fail0 {k a : Int} (hs : tS μ) (h : tm_v μ 65 12 = 0) (hk : 0 < k) : cV wX6_fail mX6_fail d [(2, 65), (0, k), (0, a)] μ (fun m => bdP m (k, a)) := by
  refine t_of (uX6_fail_0 (tFr.rf hs) ⟨fun _ m1 e1 m2 e2 => ⟨?_, hk, ?_⟩, fun c => by omega⟩)
  · rw [e2, e1]; simp [tm_vw]
  · rw [e2]; simp [tm_vw]
theorem wrg_pos (t : TK) : 0 < (wrg t).1 := by unfold wrg; dsimp only; split <;> decide
theorem pX6_wrong0 (hd : 1 ≤ d) (hs : tS μ) (h : tm_v μ 65 12 = 0) (ht : hasT μ t) : cV wX6_wrong mX6_wrong d [(2, 65)] μ (fun m => bdP m (wrg t)) := by
  have h4 := ht.1
  have h5 := ht.2.1
  refine t_of (uX6_wrong_0 hd (tFr.rf hs) ?_)
  rw [h4, h5]
  refine ⟨fun c => tC.V (pX6_fail0 hs h (by decide)) (fun m fm hm => ?_), fun c => tC.V (pX6_fail0 hs h (by decide)) (fun m fm hm => ?_)⟩
  · unfold wrg; rw [if_neg c]; exact hm
  · unfold wrg; rw [if_pos c]; exact hm
/-- behind a part that may fail -/
def exK (tx : Int → Int) (n : Int) (x : EX TK) (m : tm_M) : Prop :=
  match x with
  | .error e => bdP m e
  | .ok t => okP tx n m t
theorem pX6_mustB {v : Int} (hd : 1 ≤ d) (hs : tS μ) (h : 0 < tm_v μ 65 12) : cV wX6_must mX6_must d [(2, 65), (0, v)] μ (fun m => m = μ) :=
  t_of (uX6_must_0 hd (tFr.rf hs) ⟨fun c => by omega, fun _ => rfl⟩)
theorem pX6_must {v : Int} (hd : 2 ≤ d) (hs : tS μ) (h : okP tx n μ t) : cV wX6_must mX6_must d [(2, 65), (0, v)] μ (fun m => exK tx n (if v = 0 then .error (wrg t) else .ok (tok tx n (ken t))) m ∧ (v ≠ 0 → kso (tok tx n (ken t)) ≠ 0 → ken t < ken (tok tx n (ken t)))) := by
  refine t_of (uX6_must_0 (by omega) (tFr.rf hs) ⟨fun _ => ⟨fun c => tC.V (pX6_wrong0 (by omega) hs h.2.1 h.2.2.1) (fun m fm hm => ?_), fun c => tC.V (pX6_nextK (by omega) hs h) (fun m fm hm => ?_)⟩, fun c => by have := h.2.1; omega⟩)
  · rw [if_pos c]; exact ⟨hm, fun q => absurd c q⟩
  · rw [if_neg c]; exact ⟨hm.1, fun _ => hm.2⟩
def exC (tx : Int → Int) (n : Int) (x : EX (Int × TK)) (r : Int) (m : tm_M) : Prop :=
  match x with
  | .error e => bdP m e
  | .ok (v, t) => r = v ∧ okP tx n m t
theorem pX6_count {lo hi : Int} (hd : 2 ≤ d) (hs : tS μ) (h : okP tx n μ t) : cI wX6_count mX6_count d [(2, 65), (0, lo), (0, hi)] μ (exC tx n (p_cnt tx n t lo hi)) := by
  obtain ⟨h1, h2, h3, h4, h5⟩ := h
  have bad50 : ∀ m e, tFr wX6_count μ m → bdP m e → p_cnt tx n t lo hi = .error e → hI wX6_count μ mX6_count d (exC tx n (p_cnt tx n t lo hi)) 50 [(0, 2, 65)] [] m := by
    intro m e hm hb he
    refine uX6_count_50 (by omega) hm ⟨fun c => ?_, fun _ => ?_⟩
    · have := hb.1; have := hb.2.1; omega
    · rw [he]; exact hb
  have bad19 : ∀ m e, tFr wX6_count μ m → bdP m e → p_cnt tx n t lo hi = .error e → hI wX6_count μ mX6_count d (exC tx n (p_cnt tx n t lo hi)) 19 [(0, 2, 65), (1, 0, lo), (2, 0, hi)] [] m := by
    intro m e hm hb he
    refine uX6_count_19 (by omega) hm ⟨fun _ => bad50 m e hm hb he, fun c => ?_⟩
    have := hb.1; have := hb.2.1; omega
  refine t_of (uX6_count_0 (by omega) (tFr.rf hs) ⟨fun c => absurd h2 c, fun _ => ⟨fun c => ?_, fun c => ?_⟩⟩)
  · have hso : kso t = 2 := by rw [← h3.1]; exact c
    have e17 := h3.2.2.2.2 hso
    refine uX6_count_19 (by omega) (tFr.rf hs) ⟨fun c => absurd h2 c, fun _ => ⟨fun c1 => ?_, fun c1 => ?_⟩⟩
    · rw [e17] at c1
      refine uX6_count_50 (by omega) (tFr.rf hs) ⟨fun _ => ?_, fun c => by omega⟩
      rintro _ rfl
      refine tC.V (pX6_nextK (by omega) hs ⟨h1, h2, h3, h4, h5⟩) (fun m fm hm => ?_)
      unfold p_cnt
      rw [if_neg (fun q => q hso), if_neg (fun q => q c1)]
      exact ⟨e17, hm.1⟩
    · rw [e17] at c1
      rw [h3.2.1]
      refine tC.V (pX6_fail0 hs h2 (by decide)) (fun m fm hm => ?_)
      refine bad50 m _ ((tFr.rf hs).tr fm (tWs_sub rfl)) hm ?_
      unfold p_cnt
      rw [if_neg (fun q => q hso), if_pos c1]
  · refine tC.V (pX6_wrong0 (by omega) hs h2 h3) (fun m fm hm => ?_)
    refine bad19 m _ ((tFr.rf hs).tr fm (tWs_sub rfl)) hm ?_
    unfold p_cnt
    rw [if_pos (by rw [← h3.1]; exact c)]
theorem isName_T (h : hasT μ t) : y_isName μ ↔ nmT t := by
  unfold y_isName nmT
  have h1 := h.1
  rw [h1]
  constructor
  · intro k
    have := h.2.2.2.1 k.1
    rw [this.1, this.2] at k
    exact k
  · intro k
    have := h.2.2.2.1 k.1
    rw [this.1, this.2]
    exact k
theorem isW_T {w : Int} (h : hasT μ t) : (tm_v μ 65 14 = 1 ∧ tm_v μ 65 19 = w) ↔ isW t w := by
  unfold isW
  rw [h.1]
  constructor
  · intro k; exact ⟨k.1, by rw [← (h.2.2.2.1 k.1).2]; exact k.2⟩
  · intro k; exact ⟨k.1, by rw [(h.2.2.2.1 k.1).2]; exact k.2⟩
theorem feature_T (h : hasT μ t) : y_feature μ = ftT t := by
  unfold y_feature ftT
  simp only [isW_T h]
def exT (r0 : Int) (t : TK) (μ : tm_M) (r : Int) (m : tm_M) : Prop := (¬ nmT t → bdP m (wrg t)) ∧ (nmT t → y_named μ < 0 → bdP m (3, kfr t)) ∧ (nmT t → 0 ≤ y_named μ → r = y_named μ ∧ m = μ)
theorem pX6_told (hd : 4 ≤ d) (hs : tS μ) (h2 : tm_v μ 65 12 = 0) (h3 : hasT μ t) (hp : 0 ≤ tm_v μ 65 22 ∧ tm_v μ 65 22 ≤ 8) : cI wX6_told mX6_told d [(2, 65)] μ (exT 0 t μ) := by
  have bad41 : ∀ m e, tFr wX6_told μ m → bdP m e → exT 0 t μ 0 m → hI wX6_told μ mX6_told d (exT 0 t μ) 41 [(0, 2, 65)] [] m := by
    intro m e hm hb he
    exact uX6_told_41 (by omega) hm ⟨fun _ => he, fun c => by have := hb.1; have := hb.2.1; omega⟩
  have bad18 : ∀ m e, tFr wX6_told μ m → bdP m e → exT 0 t μ 0 m → hI wX6_told μ mX6_told d (exT 0 t μ) 18 [(0, 2, 65)] [] m := by
    intro m e hm hb he
    exact uX6_told_18 (by omega) hm ⟨fun _ => bad41 m e hm hb he, fun c => by have := hb.1; have := hb.2.1; omega⟩
  refine t_of (uX6_told_0 hd (tFr.rf hs) ⟨fun c => absurd h2 c, fun _ => ⟨fun c => ?_, fun c => ?_⟩⟩)
  · have hn := (isName_T h3).mp c
    refine uX6_told_18 (by omega) (tFr.rf hs) ⟨fun c => absurd h2 c, fun _ => ⟨hp, fun c1 => ?_, fun c1 => ?_⟩⟩
    · exact uX6_told_41 (by omega) (tFr.rf hs) ⟨fun c => absurd h2 c, fun _ => ⟨hp, fun q => absurd hn q, fun _ q => by omega, fun _ _ => ⟨rfl, rfl⟩⟩⟩
    · rw [h3.2.1]
      refine tC.V (pX6_fail0 hs h2 (by decide)) (fun m fm hm => ?_)
      exact bad41 m _ ((tFr.rf hs).tr fm (tWs_sub rfl)) hm ⟨fun q => absurd hn q, fun _ _ => hm, fun _ q => by omega⟩
  · have hn : ¬ nmT t := fun q => c ((isName_T h3).mpr q)
    refine tC.V (pX6_wrong0 (by omega) hs h2 h3) (fun m fm hm => ?_)
    exact bad18 m _ ((tFr.rf hs).tr fm (tWs_sub rfl)) hm ⟨fun _ => hm, fun q => absurd q hn, fun q => absurd q hn⟩
theorem pX6_toldB (hd : 4 ≤ d) (hs : tS μ) (h : 0 < tm_v μ 65 12) : cI wX6_told mX6_told d [(2, 65)] μ (fun _ m => m = μ) := by
  have s41 : hI wX6_told μ mX6_told d (fun _ m => m = μ) 41 [(0, 2, 65)] [] μ := uX6_told_41 (by omega) (tFr.rf hs) ⟨fun _ => rfl, fun c => by omega⟩
  have s18 : hI wX6_told μ mX6_told d (fun _ m => m = μ) 18 [(0, 2, 65)] [] μ := uX6_told_18 (by omega) (tFr.rf hs) ⟨fun _ => s41, fun c => by omega⟩
  exact t_of (uX6_told_0 hd (tFr.rf hs) ⟨fun _ => s18, fun c => by omega⟩)
/-- a town that is read is there -/
def inT (m : tm_M) (s : TN) : Prop := (tm_v m 65 22 = n_p s ∧ tm_v m 65 23 = n_l s) ∧ (∀ p, 0 ≤ p → p < n_p s → tm_v m 81 p = n_m s p ∧ tm_v m 73 p = n_d s p ∧ (∀ j, 0 ≤ j → j < 3 → tm_v m 71 (3 * p + j) = n_f s (3 * p + j)) ∧ ∀ k, 0 ≤ k → k < n_d s p → tm_v m 75 (4 * p + k) = n_a s (4 * p + k)) ∧
  (∀ l, 0 ≤ l → l < n_l s → tm_v m 78 l = n_1 s l ∧ tm_v m 79 l = n_2 s l) ∧ tm_v m 65 26 = n_s s ∧ tm_v m 65 27 = n_h s ∧ tm_v m 65 29 = n_c s ∧ tm_v m 65 60 = n_t s ∧ tm_v m 65 61 = n_u s
/-- and well made -/
def wfT (s : TN) : Prop := ((0 ≤ n_p s ∧ n_p s ≤ 8) ∧ 0 ≤ n_l s ∧ n_l s ≤ 12) ∧
  (∀ p, 0 ≤ p → p < n_p s → (0 ≤ n_d s p ∧ n_d s p ≤ 4) ∧ (0 ≤ n_f s (3 * p) ∧ n_f s (3 * p) ≤ 5) ∧ (0 ≤ n_f s (3 * p + 1) ∧ n_f s (3 * p + 1) ≤ 9) ∧ (0 ≤ n_f s (3 * p + 2) ∧ n_f s (3 * p + 2) ≤ 9) ∧ ∀ k, 0 ≤ k → k < n_d s p → (0 ≤ n_a s (4 * p + k) ∧ n_a s (4 * p + k) < n_l s) ∧ (n_1 s (n_a s (4 * p + k)) = p ∨ n_2 s (n_a s (4 * p + k)) = p)) ∧
  (∀ l, 0 ≤ l → l < n_l s → (0 ≤ n_1 s l ∧ n_1 s l < n_p s) ∧ (0 ≤ n_2 s l ∧ n_2 s l < n_p s) ∧ n_1 s l ≠ n_2 s l ∧ (∃ k, (0 ≤ k ∧ k < n_d s (n_1 s l)) ∧ n_a s (4 * n_1 s l + k) = l) ∧ ∃ k, (0 ≤ k ∧ k < n_d s (n_2 s l)) ∧ n_a s (4 * n_2 s l + k) = l) ∧
  (1 ≤ n_s s ∧ n_s s ≤ 4) ∧ (0 ≤ n_h s ∧ n_h s ≤ 3) ∧ (0 ≤ n_c s ∧ n_c s ≤ 1)
theorem named_T {s : TN} (hT : hasT μ t) (h1 : kso t = 1) (hi : inT μ s) (hw : 0 ≤ n_p s) : y_named μ = p_nm s (kva t) := by
  unfold y_named p_nm
  rw [hi.1.1, (hT.2.2.2.1 h1).2]
  have key : ∀ (q : Nat) (k : Int), 0 ≤ k → k + q ≤ n_p s → fdn (fun p => tm_v μ 81 p = kva t) (-1) q k = fdn (fun p => n_m s p = kva t) (-1) q k := by
    intro q
    induction q with
    | zero => intro k _ _; rfl
    | succ q ih =>
      intro k k0 kq
      rw [fdn, fdn, ih (k + 1) (by omega) (by omega), (hi.2.1 k k0 (by omega)).1]
  exact key _ 0 (by omega) (by omega)
theorem p_nm_in {s : TN} {w : Int} (h : 0 ≤ p_nm s w) : p_nm s w < n_p s ∧ n_m s (p_nm s w) = w := by
  have := fdn_spec (c := fun p => n_m s p = w) (e := -1) (n_p s).toNat 0
  unfold p_nm at *
  rcases this with ⟨e, _⟩ | ⟨_, h1, h2, _⟩
  · omega
  · exact ⟨by omega, h2⟩
/-- the reading's state behind a part -/
def exS (tx : Int → Int) (n : Int) (x : EX (TN × TK)) (m : tm_M) : Prop :=
  match x with
  | .error e => bdP m e
  | .ok (s, t) => okP tx n m t ∧ inT m s
end C7E
