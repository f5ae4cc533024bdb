/-! CONTRACTS of the model's small methods, and of Math's -/
abbrev w0 : Int → Int → Prop := tWs [] []
theorem pf_min : plainFor mJ8_min.1 = true := by decide +kernel
theorem pf_max : plainFor mJ8_max.1 = true := by decide +kernel
theorem pf_max2 : plainFor mJ8_max_2.1 = true := by decide +kernel
theorem pf_abs : plainFor mJ8_abs.1 = true := by decide +kernel
section C6A
variable {d : Nat} {μ : tm_M}
theorem pJ8_min {a b : Int} (hs : tS μ) : cI w0 mJ8_min d [(0, a), (0, b)] μ (fun r _ => r = min a b) :=
  t_of (uJ8_min_0 (tFr.rf hs) ⟨fun c => by omega, fun c => by omega⟩) pf_min
theorem pJ8_max {a b : Int} (hs : tS μ) : cI w0 mJ8_max d [(0, a), (0, b)] μ (fun r _ => r = max a b) :=
  t_of (uJ8_max_0 (tFr.rf hs) ⟨fun c => by omega, fun c => by omega⟩) pf_max
theorem pJ8_max_2 {a b : Int} (hs : tS μ) : cL w0 mJ8_max_2 d [(1, a), (1, b)] μ (fun r _ => r = max a b) :=
  t_of (uJ8_max_2_0 (tFr.rf hs) ⟨fun c => by omega, fun c => by omega⟩) pf_max2
theorem pJ8_abs {a : Int} (hs : tS μ) (hc : -9223372036854775808 < a ∧ a ≤ 9223372036854775807) : cL w0 mJ8_abs d [(1, a)] μ (fun r _ => r = (a.natAbs : Int)) :=
  t_of (uJ8_abs_0 (tFr.rf hs) ⟨fun c => by omega, fun c => by rw [w64_id (by omega) (by omega)]; omega⟩) pf_abs
theorem pX6_isIn {v lo hi : Int} (hs : tS μ) : cI w0 mX6_isIn d [(1, v), (1, lo), (1, hi)] μ (fun r _ => r = b2i (lo ≤ v ∧ v ≤ hi)) :=
  t_of (uX6_isIn_0 (tFr.rf hs) ⟨fun c => (b2i_f (by omega)).symm, fun c => ⟨fun c2 => (b2i_f (by omega)).symm, fun c2 => (b2i_t (by omega)).symm⟩⟩)
def y_cut (s v : Int) : Int := if s = 0 then w8 (w32 v) else if s = 1 then w16 (w32 v) else if s = 2 then w32 v else v
theorem pX6_cut {s v : Int} (hs : tS μ) : cL w0 mX6_cut d [(0, s), (1, v)] μ (fun r _ => r = y_cut s v) :=
  t_of (uX6_cut_0 (tFr.rf hs) ⟨fun c => ⟨fun c2 => ⟨fun c3 => by unfold y_cut; rw [if_neg c, if_neg c2, if_neg c3], fun c3 => by unfold y_cut; rw [if_neg c, if_neg c2, if_pos c3]⟩, fun c2 => by unfold y_cut; rw [if_neg c, if_pos c2]⟩, fun c => by unfold y_cut; rw [if_pos c]⟩)
def y_trayed (μ : tm_M) (t : Int) : Int := if t < 0 ∨ 4 ≤ t then 1 else if tm_v μ 67 t < 0 then 3 else 0
theorem pX6_trayed {t : Int} (hs : tS μ) : cI w0 mX6_trayed d [(2, 65), (0, t)] μ (fun r _ => r = y_trayed μ t) :=
  t_of (uX6_trayed_0 (tFr.rf hs) ⟨fun c => by unfold y_trayed; rw [if_pos (by omega)], fun c => ⟨fun c2 => ⟨⟨c, c2⟩, fun c3 => by unfold y_trayed; rw [if_neg (by omega), if_neg (by omega)], fun c3 => by unfold y_trayed; rw [if_neg (by omega), if_pos (by omega)]⟩, fun c2 => by unfold y_trayed; rw [if_pos (by omega)]⟩⟩)
theorem pX6_numberOf {t k : Int} (hs : tS μ) (hc : 0 ≤ t ∧ t < 4 ∧ 0 ≤ k ∧ k < 64) : cL w0 mX6_numberOf d [(2, 65), (0, t), (0, k)] μ (fun r _ => r = tm_v μ 68 (64 * t + k)) := by
  have e : w32 (w32 (64 * t) + k) = 64 * t + k := by rw [w32_id (x := 64 * t) (by omega) (by omega), w32_id (by omega) (by omega)]
  refine t_of (uX6_numberOf_0 (tFr.rf hs) ?_)
  rw [e]
  exact ⟨by omega, rfl⟩
theorem pX6_isLetter {v : Int} (hs : tS μ) : cI w0 mX6_isLetter d [(0, v)] μ (fun r _ => r = b2i (97 ≤ v ∧ v ≤ 122)) :=
  t_of (uX6_isLetter_0 (tFr.rf hs) ⟨fun c => (b2i_f (by omega)).symm, fun c => ⟨fun c2 => (b2i_f (by omega)).symm, fun c2 => (b2i_t (by omega)).symm⟩⟩)
theorem pX6_isDigit {v : Int} (hs : tS μ) : cI w0 mX6_isDigit d [(0, v)] μ (fun r _ => r = b2i (48 ≤ v ∧ v ≤ 57)) :=
  t_of (uX6_isDigit_0 (tFr.rf hs) ⟨fun c => (b2i_f (by omega)).symm, fun c => ⟨fun c2 => (b2i_f (by omega)).symm, fun c2 => (b2i_t (by omega)).symm⟩⟩)
/-- the tape's sign at k; 0 behind the end -/
def y_look (μ : tm_M) (k : Int) : Int := if k < tm_v μ 65 9 then tm_v μ 69 k % 256 else 0
theorem i_and255 {x : Int} (h : -128 ≤ x ∧ x ≤ 127) : i_and x 255 = x % 256 := by
  obtain ⟨n, hn⟩ : ∃ n : Nat, x + 128 = n := ⟨(x + 128).toNat, by omega⟩
  have hn2 : n < 256 := by omega
  have : x = (n : Int) - 128 := by omega
  subst this
  have key : ∀ n : Fin 256, i_and ((n.val : Int) - 128) 255 = ((n.val : Int) - 128) % 256 := by decide +kernel
  exact key ⟨n, hn2⟩
theorem pX6_look {k : Int} (hs : tS μ) (hc : 0 ≤ k ∧ tm_v μ 65 9 ≤ 500 ∧ -128 ≤ tm_v μ 69 k ∧ tm_v μ 69 k ≤ 127) : cI w0 mX6_look d [(2, 65), (0, k)] μ (fun r _ => r = y_look μ k) :=
  t_of (uX6_look_0 (tFr.rf hs) ⟨fun c => by unfold y_look; rw [if_neg (by omega)], fun c => ⟨by omega, by unfold y_look; rw [if_pos c, i_and255 (by omega)]⟩⟩)
theorem pX6_isWord {w : Int} (hs : tS μ) : cI w0 mX6_isWord d [(2, 65), (1, w)] μ (fun r _ => r = b2i (tm_v μ 65 14 = 1 ∧ tm_v μ 65 19 = w)) :=
  t_of (uX6_isWord_0 (tFr.rf hs) ⟨fun c => (b2i_f (by omega)).symm, fun c => ⟨fun c2 => (b2i_f (by omega)).symm, fun c2 => (b2i_t (by omega)).symm⟩⟩)
/-! the town of the model: places, lanes, degree, the lane at a place, lanes' ends, shut; features -/
def y_over (μ : tm_M) (l p : Int) : Int := if tm_v μ 76 l = p then tm_v μ 77 l else tm_v μ 76 l
def y_leads (μ : tm_M) (p k : Int) : Int := if 0 ≤ k ∧ k < tm_v μ 72 p then y_over μ (tm_v μ 74 (4 * p + k)) p else -1
def y_open (μ : tm_M) (p k : Int) : Prop := 0 ≤ k ∧ k < tm_v μ 72 p ∧ tm_v μ 80 (tm_v μ 74 (4 * p + k)) = 0
theorem y_open_dec (μ : tm_M) (p k : Int) : y_open μ p k ↔ (0 ≤ k ∧ k < tm_v μ 72 p ∧ tm_v μ 80 (tm_v μ 74 (4 * p + k)) = 0) := Iff.rfl
def y_go (μ : tm_M) (p s : Int) : Int := if 0 ≤ s - 1 ∧ s - 1 < tm_v μ 72 p ∧ tm_v μ 80 (tm_v μ 74 (4 * p + (s - 1))) = 0 then y_leads μ p (s - 1) else p
def y_likely (μ : tm_M) (a b : Int) : Int := tm_v μ 70 (3 * a + 1) * tm_v μ 70 (3 * b + 2)
/-- the town is well made -/
def y_W (μ : tm_M) : Prop := (0 ≤ tm_v μ 65 20 ∧ tm_v μ 65 20 ≤ 8) ∧ (0 ≤ tm_v μ 65 21 ∧ tm_v μ 65 21 ≤ 12) ∧
  (∀ p, 0 ≤ p → p < tm_v μ 65 20 → (0 ≤ tm_v μ 72 p ∧ tm_v μ 72 p ≤ 4) ∧ (0 ≤ tm_v μ 70 (3 * p) ∧ tm_v μ 70 (3 * p) ≤ 5) ∧ (0 ≤ tm_v μ 70 (3 * p + 1) ∧ tm_v μ 70 (3 * p + 1) ≤ 9) ∧ (0 ≤ tm_v μ 70 (3 * p + 2) ∧ tm_v μ 70 (3 * p + 2) ≤ 9) ∧
    ∀ k, 0 ≤ k → k < tm_v μ 72 p → (0 ≤ tm_v μ 74 (4 * p + k) ∧ tm_v μ 74 (4 * p + k) < tm_v μ 65 21) ∧ (tm_v μ 76 (tm_v μ 74 (4 * p + k)) = p ∨ tm_v μ 77 (tm_v μ 74 (4 * p + k)) = p)) ∧
  (∀ l, 0 ≤ l → l < tm_v μ 65 21 → (0 ≤ tm_v μ 76 l ∧ tm_v μ 76 l < tm_v μ 65 20) ∧ (0 ≤ tm_v μ 77 l ∧ tm_v μ 77 l < tm_v μ 65 20) ∧ tm_v μ 76 l ≠ tm_v μ 77 l ∧ (0 ≤ tm_v μ 80 l ∧ tm_v μ 80 l ≤ 1)) ∧
  (1 ≤ tm_v μ 65 24 ∧ tm_v μ 65 24 ≤ 4) ∧ (0 ≤ tm_v μ 65 25 ∧ tm_v μ 65 25 ≤ 3) ∧
  (∀ l, 0 ≤ l → l < tm_v μ 65 21 → (∃ k, (0 ≤ k ∧ k < tm_v μ 72 (tm_v μ 76 l)) ∧ tm_v μ 74 (4 * tm_v μ 76 l + k) = l) ∧ ∃ k, (0 ≤ k ∧ k < tm_v μ 72 (tm_v μ 77 l)) ∧ tm_v μ 74 (4 * tm_v μ 77 l + k) = l)
/-- a place of the town -/
def y_p (μ : tm_M) (p : Int) : Prop := y_W μ ∧ 0 ≤ p ∧ p < tm_v μ 65 20
theorem y_p8 {p : Int} (h : y_p μ p) : 0 ≤ p ∧ p < 8 := by have := h.1.1; have := h.2; omega
theorem pX6_over {l p : Int} (hs : tS μ) (hc : 0 ≤ l ∧ l < 12) : cI w0 mX6_over d [(2, 65), (0, l), (0, p)] μ (fun r _ => r = y_over μ l p) :=
  t_of (uX6_over_0 (tFr.rf hs) ⟨hc, fun c => by unfold y_over; rw [if_neg c], fun c => by unfold y_over; rw [if_pos c]⟩)
theorem pX6_isOpen {p k : Int} (hs : tS μ) (hc : y_p μ p) : cI w0 mX6_isOpen d [(2, 65), (0, p), (0, k)] μ (fun r _ => r = b2i (0 ≤ k ∧ k < tm_v μ 72 p ∧ tm_v μ 80 (tm_v μ 74 (4 * p + k)) = 0)) := by
  have h8 := y_p8 hc
  have hp := hc.1.2.2.1 p hc.2.1 hc.2.2
  refine t_of (uX6_isOpen_0 (tFr.rf hs) ⟨fun c => (b2i_f (by omega)).symm, fun c => ⟨h8, fun c2 => (b2i_f (by omega)).symm, fun c2 => ?_⟩⟩)
  have e : w32 (w32 (4 * p) + k) = 4 * p + k := by rw [w32_id (x := 4 * p) (by omega) (by omega), w32_id (by omega) (by omega)]
  have hl := hp.2.2.2.2 k c c2
  have hm := hc.1.2.1
  rw [e]
  exact ⟨by omega, by omega, fun c3 => (b2i_f (by omega)).symm, fun c3 => (b2i_t (by omega)).symm⟩
theorem pX6_meets {a b wa wb : Int} (hs : tS μ) : cI w0 mX6_meets d [(2, 65), (0, a), (0, b), (0, wa), (0, wb)] μ (fun r _ => r = b2i (a = b ∨ (tm_v μ 65 28 ≠ 0 ∧ a = wb ∧ b = wa))) :=
  t_of (uX6_meets_0 (tFr.rf hs) ⟨fun c => (b2i_t (by omega)).symm, fun c => ⟨fun c2 => (b2i_f (by omega)).symm, fun c2 => ⟨fun c3 => (b2i_f (by omega)).symm, fun c3 => ⟨fun c4 => (b2i_f (by omega)).symm, fun c4 => (b2i_t (by omega)).symm⟩⟩⟩⟩)
theorem pX6_likely {a b : Int} (hs : tS μ) (hc : y_p μ a ∧ y_p μ b) : cL w0 mX6_likely d [(2, 65), (0, a), (0, b)] μ (fun r _ => r = y_likely μ a b) := by
  have ha := y_p8 hc.1
  have hb := y_p8 hc.2
  have e1 : w32 (w32 (3 * a) + 1) = 3 * a + 1 := by rw [w32_id (x := 3 * a) (by omega) (by omega), w32_id (by omega) (by omega)]
  have e2 : w32 (w32 (3 * b) + 2) = 3 * b + 2 := by rw [w32_id (x := 3 * b) (by omega) (by omega), w32_id (by omega) (by omega)]
  have h1 := (hc.1.1.2.2.1 a hc.1.2.1 hc.1.2.2).2.2.1
  have h2 := (hc.2.1.2.2.1 b hc.2.2.1 hc.2.2.2).2.2.2.1
  refine t_of (uX6_likely_0 (tFr.rf hs) ?_)
  rw [e1, e2]
  refine ⟨by omega, by omega, ?_⟩
  show w64 _ = tm_v μ 70 (3 * a + 1) * tm_v μ 70 (3 * b + 2)
  have h3 : 0 ≤ tm_v μ 70 (3 * a + 1) * tm_v μ 70 (3 * b + 2) := Int.mul_nonneg h1.1 h2.1
  have h4 : tm_v μ 70 (3 * a + 1) * tm_v μ 70 (3 * b + 2) ≤ 9 * 9 := Int.mul_le_mul h1.2 h2.2 h2.1 (by omega)
  exact w64_id (by omega) (by omega)
end C6A
section C6A2
variable {d : Nat} {μ : tm_M}
theorem pX6_sp_place (hs : tS μ) : cL w0 mX6_spelled d [(0, 112), (0, 108), (0, 97), (0, 99), (0, 101), (0, 0)] μ (fun z _ => z = 17171557) := t_of (uX6_spelled_0 (tFr.rf hs) (fun z0 e0 z1 e1 => ⟨fun c => absurd c (by decide), fun _ z2 e2 => ⟨fun c => absurd c (by decide), fun _ z3 e3 => ⟨fun c => absurd c (by decide), fun _ z4 e4 => ⟨fun _ => by subst_vars; decide +kernel, fun c => absurd c (by decide)⟩⟩⟩⟩))
theorem pX6_sp_lane (hs : tS μ) : cL w0 mX6_spelled d [(0, 108), (0, 97), (0, 110), (0, 101), (0, 0), (0, 0)] μ (fun z _ => z = 394693) := t_of (uX6_spelled_0 (tFr.rf hs) (fun z0 e0 z1 e1 => ⟨fun c => absurd c (by decide), fun _ z2 e2 => ⟨fun c => absurd c (by decide), fun _ z3 e3 => ⟨fun _ => ⟨fun _ => by subst_vars; decide +kernel, fun c => absurd c (by decide)⟩, fun c => absurd c (by decide)⟩⟩⟩))
theorem pX6_sp_to (hs : tS μ) : cL w0 mX6_spelled d [(0, 116), (0, 111), (0, 0), (0, 0), (0, 0), (0, 0)] μ (fun z _ => z = 655) := t_of (uX6_spelled_0 (tFr.rf hs) (fun z0 e0 z1 e1 => ⟨fun _ => ⟨fun _ => ⟨fun _ => ⟨fun _ => by subst_vars; decide +kernel, fun c => absurd c (by decide)⟩, fun c => absurd c (by decide)⟩, fun c => absurd c (by decide)⟩, fun c => absurd c (by decide)⟩))
theorem pX6_sp_cross (hs : tS μ) : cL w0 mX6_spelled d [(0, 99), (0, 114), (0, 111), (0, 115), (0, 115), (0, 0)] μ (fun z _ => z = 3751539) := t_of (uX6_spelled_0 (tFr.rf hs) (fun z0 e0 z1 e1 => ⟨fun c => absurd c (by decide), fun _ z2 e2 => ⟨fun c => absurd c (by decide), fun _ z3 e3 => ⟨fun c => absurd c (by decide), fun _ z4 e4 => ⟨fun _ => by subst_vars; decide +kernel, fun c => absurd c (by decide)⟩⟩⟩⟩))
theorem pX6_sp_slow (hs : tS μ) : cL w0 mX6_spelled d [(0, 115), (0, 108), (0, 111), (0, 119), (0, 0), (0, 0)] μ (fun z _ => z = 635383) := t_of (uX6_spelled_0 (tFr.rf hs) (fun z0 e0 z1 e1 => ⟨fun c => absurd c (by decide), fun _ z2 e2 => ⟨fun c => absurd c (by decide), fun _ z3 e3 => ⟨fun _ => ⟨fun _ => by subst_vars; decide +kernel, fun c => absurd c (by decide)⟩, fun c => absurd c (by decide)⟩⟩⟩))
theorem pX6_sp_hears (hs : tS μ) : cL w0 mX6_spelled d [(0, 104), (0, 101), (0, 97), (0, 114), (0, 115), (0, 0)] μ (fun z _ => z = 8554067) := t_of (uX6_spelled_0 (tFr.rf hs) (fun z0 e0 z1 e1 => ⟨fun c => absurd c (by decide), fun _ z2 e2 => ⟨fun c => absurd c (by decide), fun _ z3 e3 => ⟨fun c => absurd c (by decide), fun _ z4 e4 => ⟨fun _ => by subst_vars; decide +kernel, fun c => absurd c (by decide)⟩⟩⟩⟩))
theorem pX6_sp_sees (hs : tS μ) : cL w0 mX6_spelled d [(0, 115), (0, 101), (0, 101), (0, 115), (0, 0), (0, 0)] μ (fun z _ => z = 627891) := t_of (uX6_spelled_0 (tFr.rf hs) (fun z0 e0 z1 e1 => ⟨fun c => absurd c (by decide), fun _ z2 e2 => ⟨fun c => absurd c (by decide), fun _ z3 e3 => ⟨fun _ => ⟨fun _ => by subst_vars; decide +kernel, fun c => absurd c (by decide)⟩, fun c => absurd c (by decide)⟩⟩⟩))
theorem pX6_sp_first (hs : tS μ) : cL w0 mX6_spelled d [(0, 102), (0, 105), (0, 114), (0, 115), (0, 116), (0, 0)] μ (fun z _ => z = 6605428) := t_of (uX6_spelled_0 (tFr.rf hs) (fun z0 e0 z1 e1 => ⟨fun c => absurd c (by decide), fun _ z2 e2 => ⟨fun c => absurd c (by decide), fun _ z3 e3 => ⟨fun c => absurd c (by decide), fun _ z4 e4 => ⟨fun _ => by subst_vars; decide +kernel, fun c => absurd c (by decide)⟩⟩⟩⟩))
theorem pX6_sp_second (hs : tS μ) : cL w0 mX6_spelled d [(0, 115), (0, 101), (0, 99), (0, 111), (0, 110), (0, 100)] μ (fun z _ => z = 642891204) := t_of (uX6_spelled_0 (tFr.rf hs) (fun z0 e0 z1 e1 => ⟨fun c => absurd c (by decide), fun _ z2 e2 => ⟨fun c => absurd c (by decide), fun _ z3 e3 => ⟨fun c => absurd c (by decide), fun _ z4 e4 => ⟨fun c => absurd c (by decide), fun _ => by subst_vars; decide +kernel⟩⟩⟩⟩))
theorem pX6_no {x : Int} (hs : tS μ) : cI wX6_no mX6_no d [(2, 65), (0, x)] μ (fun r μ' => r = 0 ∧ μ' = tm_w μ 65 0 x) := t_of (uX6_no_0 (tFr.rf hs) (fun _ e => ⟨rfl, e⟩))
theorem pX6_refuse {x : Int} (hs : tS μ) : cI wX6_refuse mX6_refuse d [(2, 65), (0, x)] μ (fun r μ' => r = -1 ∧ μ' = tm_w μ 65 0 x) := t_of (uX6_refuse_0 (tFr.rf hs) (fun _ e => ⟨rfl, e⟩))
end C6A2
/-! the town's cells stay: W names none of them -/
def y_T (W : Int → Int → Prop) : Prop := (∀ j, ¬ W 70 j ∧ ¬ W 72 j ∧ ¬ W 74 j ∧ ¬ W 76 j ∧ ¬ W 77 j ∧ ¬ W 80 j ∧ ¬ W 82 j ∧ ¬ W 83 j ∧ ¬ W 84 j) ∧ ¬ W 65 20 ∧ ¬ W 65 21 ∧ ¬ W 65 24 ∧ ¬ W 65 25 ∧ ¬ W 65 28 ∧ ¬ W 65 30 ∧ ¬ W 65 43
theorem tWs_T {A : List Int} {B : List (Int × Int)} (h : ([70, 72, 74, 76, 77, 80, 82, 83, 84].all (fun a => (A.all (fun q => !decide (q = a)) && B.all (fun q => !decide (q.1 = a)))) && [20, 21, 24, 25, 28, 30, 43].all (fun j => A.all (fun q => !decide (q = 65)) && B.all (fun q => !decide (q = (65, j))))) = true) : y_T (tWs A B) := by
  simp only [List.all_cons, List.all_nil, Bool.and_true, Bool.and_eq_true] at h
  obtain ⟨⟨a1, a2, a3, a4, a5, a6, a7, a8, a9⟩, b1, b2, b3, b4, b5, b6, b7⟩ := h
  refine ⟨fun j => ⟨tWs_no j ?_, tWs_no j ?_, tWs_no j ?_, tWs_no j ?_, tWs_no j ?_, tWs_no j ?_, tWs_no j ?_, tWs_no j ?_, tWs_no j ?_⟩, tWs_noF ?_, tWs_noF ?_, tWs_noF ?_, tWs_noF ?_, tWs_noF ?_, tWs_noF ?_, tWs_noF ?_⟩ <;> rw [Bool.and_eq_true] <;> assumption
section YT
variable {W : Int → Int → Prop} {μ0 μ : tm_M}
theorem y_t70 (hs : tFr W μ0 μ) (hw : y_T W) (j : Int) : tm_v μ 70 j = tm_v μ0 70 j := hs.v (hw.1 j).1
theorem y_t72 (hs : tFr W μ0 μ) (hw : y_T W) (j : Int) : tm_v μ 72 j = tm_v μ0 72 j := hs.v (hw.1 j).2.1
theorem y_t74 (hs : tFr W μ0 μ) (hw : y_T W) (j : Int) : tm_v μ 74 j = tm_v μ0 74 j := hs.v (hw.1 j).2.2.1
theorem y_t76 (hs : tFr W μ0 μ) (hw : y_T W) (j : Int) : tm_v μ 76 j = tm_v μ0 76 j := hs.v (hw.1 j).2.2.2.1
theorem y_t77 (hs : tFr W μ0 μ) (hw : y_T W) (j : Int) : tm_v μ 77 j = tm_v μ0 77 j := hs.v (hw.1 j).2.2.2.2.1
theorem y_t80 (hs : tFr W μ0 μ) (hw : y_T W) (j : Int) : tm_v μ 80 j = tm_v μ0 80 j := hs.v (hw.1 j).2.2.2.2.2.1
theorem y_t82 (hs : tFr W μ0 μ) (hw : y_T W) (j : Int) : tm_v μ 82 j = tm_v μ0 82 j := hs.v (hw.1 j).2.2.2.2.2.2.1
theorem y_t83 (hs : tFr W μ0 μ) (hw : y_T W) (j : Int) : tm_v μ 83 j = tm_v μ0 83 j := hs.v (hw.1 j).2.2.2.2.2.2.2.1
theorem y_t84 (hs : tFr W μ0 μ) (hw : y_T W) (j : Int) : tm_v μ 84 j = tm_v μ0 84 j := hs.v (hw.1 j).2.2.2.2.2.2.2.2
theorem y_f20 (hs : tFr W μ0 μ) (hw : y_T W) : tm_v μ 65 20 = tm_v μ0 65 20 := hs.v hw.2.1
theorem y_f21 (hs : tFr W μ0 μ) (hw : y_T W) : tm_v μ 65 21 = tm_v μ0 65 21 := hs.v hw.2.2.1
theorem y_f24 (hs : tFr W μ0 μ) (hw : y_T W) : tm_v μ 65 24 = tm_v μ0 65 24 := hs.v hw.2.2.2.1
theorem y_f25 (hs : tFr W μ0 μ) (hw : y_T W) : tm_v μ 65 25 = tm_v μ0 65 25 := hs.v hw.2.2.2.2.1
theorem y_f28 (hs : tFr W μ0 μ) (hw : y_T W) : tm_v μ 65 28 = tm_v μ0 65 28 := hs.v hw.2.2.2.2.2.1
theorem y_f30 (hs : tFr W μ0 μ) (hw : y_T W) : tm_v μ 65 30 = tm_v μ0 65 30 := hs.v hw.2.2.2.2.2.2.1
theorem y_f43 (hs : tFr W μ0 μ) (hw : y_T W) : tm_v μ 65 43 = tm_v μ0 65 43 := hs.v hw.2.2.2.2.2.2.2
theorem y_over_F (hs : tFr W μ0 μ) (hw : y_T W) (l p : Int) : y_over μ l p = y_over μ0 l p := by unfold y_over; rw [y_t76 hs hw, y_t77 hs hw]
theorem y_leads_F (hs : tFr W μ0 μ) (hw : y_T W) (p k : Int) : y_leads μ p k = y_leads μ0 p k := by unfold y_leads; rw [y_t72 hs hw, y_t74 hs hw, y_over_F hs hw]
theorem y_go_F (hs : tFr W μ0 μ) (hw : y_T W) (p k : Int) : y_go μ p k = y_go μ0 p k := by unfold y_go; rw [y_t72 hs hw, y_t74 hs hw, y_t80 hs hw, y_leads_F hs hw]
theorem y_likely_F (hs : tFr W μ0 μ) (hw : y_T W) (a b : Int) : y_likely μ a b = y_likely μ0 a b := by unfold y_likely; rw [y_t70 hs hw, y_t70 hs hw]
theorem y_W_F (hs : tFr W μ0 μ) (hw : y_T W) : y_W μ ↔ y_W μ0 := by
  unfold y_W
  simp only [y_t70 hs hw, y_t72 hs hw, y_t74 hs hw, y_t76 hs hw, y_t77 hs hw, y_t80 hs hw, y_f20 hs hw, y_f21 hs hw, y_f24 hs hw, y_f25 hs hw]
theorem y_p_F (hs : tFr W μ0 μ) (hw : y_T W) (p : Int) : y_p μ p ↔ y_p μ0 p := by unfold y_p; rw [y_W_F hs hw, y_f20 hs hw]
variable {d : Nat}
theorem pX6_overF {l p : Int} (hs : tFr W μ0 μ) (hw : y_T W) (hc : 0 ≤ l ∧ l < 12) : cI w0 mX6_over d [(2, 65), (0, l), (0, p)] μ (fun r _ => r = y_over μ0 l p) := by rw [← y_over_F hs hw]; exact pX6_over hs.S hc
theorem pX6_isOpenF {p k : Int} (hs : tFr W μ0 μ) (hw : y_T W) (hc : y_p μ0 p) : cI w0 mX6_isOpen d [(2, 65), (0, p), (0, k)] μ (fun r _ => r = b2i (0 ≤ k ∧ k < tm_v μ0 72 p ∧ tm_v μ0 80 (tm_v μ0 74 (4 * p + k)) = 0)) := by rw [← y_t72 hs hw, ← y_t74 hs hw, ← y_t80 hs hw]; exact pX6_isOpen hs.S ((y_p_F hs hw p).mpr hc)
theorem pX6_meetsF {a b wa wb : Int} (hs : tFr W μ0 μ) (hw : y_T W) : cI w0 mX6_meets d [(2, 65), (0, a), (0, b), (0, wa), (0, wb)] μ (fun r _ => r = b2i (a = b ∨ (tm_v μ0 65 28 ≠ 0 ∧ a = wb ∧ b = wa))) := by rw [← y_f28 hs hw]; exact pX6_meets hs.S
theorem pX6_likelyF {a b : Int} (hs : tFr W μ0 μ) (hw : y_T W) (hc : y_p μ0 a ∧ y_p μ0 b) : cL w0 mX6_likely d [(2, 65), (0, a), (0, b)] μ (fun r _ => r = y_likely μ0 a b) := by rw [← y_likely_F hs hw]; exact pX6_likely hs.S ⟨(y_p_F hs hw a).mpr hc.1, (y_p_F hs hw b).mpr hc.2⟩
end YT
