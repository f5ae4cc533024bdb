/-! CONTRACTS of the component: lines of chances, where two cross -/
section C0W
variable {d : Nat} {μ μ0 ν : tm_M} {W : Int → Int → Prop}
/-- a column of what pairs of picks are worth -/
def wX (m : tm_M) (j : Int) : V3 := (tm_v m 53 j, tm_v m 54 j, tm_v m 55 j)
def lnC (m : tm_M) (x : Int) : V3 := if x = 0 then (1, 0, 0) else if x = 1 then (0, 1, 0) else if x = 2 then (0, 0, 1) else if x = 3 then cb 1 (wX m 1) (-1) (wX m 0) else if x = 4 then cb 1 (wX m 2) (-1) (wX m 0) else cb 1 (wX m 2) (-1) (wX m 1)
def wb (m : tm_M) : Prop := ∀ i j, 0 ≤ i → i < 3 → 0 ≤ j → j < 3 → 0 ≤ tm_v m (53 + i) j ∧ tm_v m (53 + i) j ≤ 100
def vc (p : V3) (k : Int) : Int := if k = 0 then p.1 else if k = 1 then p.2.1 else p.2.2
theorem v3_eq {p q : V3} (h : ∀ k, 0 ≤ k → k < 3 → vc p k = vc q k) : p = q := by
  have h0 := h 0 (by decide) (by decide)
  have h1 := h 1 (by decide) (by decide)
  have h2 := h 2 (by decide) (by decide)
  simp only [vc] at h0 h1 h2
  rcases p with ⟨a, b, c⟩
  rcases q with ⟨a', b', c'⟩
  simp at h0 h1 h2
  rw [h0, h1, h2]
theorem vc_X (m : tm_M) (j k : Int) (k0 : 0 ≤ k) (k3 : k < 3) : vc (wX m j) k = tm_v m (53 + k) j := by
  rcases (show k = 0 ∨ k = 1 ∨ k = 2 by omega) with e | e | e <;> subst e <;> rfl
theorem vc_cb (m : tm_M) (i j k : Int) (k0 : 0 ≤ k) (k3 : k < 3) : vc (cb 1 (wX m i) (-1) (wX m j)) k = tm_v m (53 + k) i - tm_v m (53 + k) j := by
  rcases (show k = 0 ∨ k = 1 ∨ k = 2 by omega) with e | e | e <;> subst e <;> simp [vc, cb, wX] <;> omega
theorem vc_e (k x : Int) (k0 : 0 ≤ k) (k3 : k < 3) (x0 : 0 ≤ x) (x3 : x < 3) (m : tm_M) : vc (lnC m x) k = if k = x then 1 else 0 := by
  rcases (show k = 0 ∨ k = 1 ∨ k = 2 by omega) with e | e | e <;> subst e <;> rcases (show x = 0 ∨ x = 1 ∨ x = 2 by omega) with e | e | e <;> subst e <;> rfl
theorem lnC_in {m : tm_M} (hb : wb m) (x : Int) (k : Int) (k0 : 0 ≤ k) (k3 : k < 3) : -100 ≤ vc (lnC m x) k ∧ vc (lnC m x) k ≤ 100 := by
  unfold lnC
  have b0 := hb k 0 k0 k3 (by decide) (by decide)
  have b1 := hb k 1 k0 k3 (by decide) (by decide)
  have b2 := hb k 2 k0 k3 (by decide) (by decide)
  split
  · unfold vc; split; decide; split <;> decide
  · split
    · unfold vc; split; decide; split <;> decide
    · split
      · unfold vc; split; decide; split <;> decide
      · split
        · rw [vc_cb _ _ _ _ k0 k3]; omega
        · split
          · rw [vc_cb _ _ _ _ k0 k3]; omega
          · rw [vc_cb _ _ _ _ k0 k3]; omega
theorem pX0_lineA {x : Int} (hs : tS μ) (hb : wb μ) (hx : 0 ≤ x ∧ x < 6) : cV (tWs [56] []) mX0_line d [(2, 1), (0, x), (2, 56)] μ (fun m => ∀ k, 0 ≤ k → k < 3 → tm_v m 56 k = vc (lnC μ x) k) := by
  have lp : ∀ one two, (0 ≤ one ∧ one < 3) → (0 ≤ two ∧ two < 3) → (∀ k, 0 ≤ k → k < 3 → 3 ≤ x → tm_v μ (53 + k) one - tm_v μ (53 + k) two = vc (lnC μ x) k) → ∀ (n : Nat) (k : Int) (m : tm_M), 0 ≤ k → k + n = 3 → tFr (tWs [56] []) μ m → (∀ j, 0 ≤ j → j < k → tm_v m 56 j = vc (lnC μ x) j) → hV (tWs [56] []) μ mX0_line d (fun m => ∀ k, 0 ≤ k → k < 3 → tm_v m 56 k = vc (lnC μ x) k) 26 [(0, 2, 1), (1, 0, x), (2, 2, 56), (3, 0, one), (4, 0, two), (5, 0, k)] [] m := by
    intro one two h1 h2 hv n
    induction n with
    | zero =>
      intro k m k0 kn hm hall
      exact uX0_line_26_A hm ⟨fun _ j j0 j1 => hall j j0 (by omega), fun c => by omega⟩
    | succ n ih =>
      intro k m k0 kn hm hall
      have e1 : w32 (k + 1) = k + 1 := w32_id (by omega) (by omega)
      have nx : ∀ y m8, m8 = tm_w m 56 k y → y = vc (lnC μ x) k → hV (tWs [56] []) μ mX0_line d (fun m => ∀ k, 0 ≤ k → k < 3 → tm_v m 56 k = vc (lnC μ x) k) 26 [(0, 2, 1), (1, 0, x), (2, 2, 56), (3, 0, one), (4, 0, two), (5, 0, k + 1)] [] m8 := by
        intro y m8 e8 hy
        refine ih (k + 1) m8 (by omega) (by omega) (by rw [e8]; exact hm.w (tWs_in _ rfl) (tS_w hm.S sf_56 _ _)) (fun j j0 j1 => ?_)
        rw [e8, tm_vw]
        by_cases e : j = k
        · rw [if_pos ⟨rfl, e⟩, e]; exact hy
        · rw [if_neg (fun q => e q.2)]; exact hall j j0 (by omega)
      have c1 := hb k one k0 (by omega) h1.1 h1.2
      have c2 := hb k two k0 (by omega) h2.1 h2.2
      refine uX0_line_26_A hm ⟨fun c => by omega, fun _ => ?_⟩
      rw [e1, w64_id (x := tm_v μ (53 + k) one - tm_v μ (53 + k) two) (by omega) (by omega)]
      refine ⟨fun c => ⟨fun c3 => ⟨by omega, fun m8 e8 => nx 0 m8 e8 ?_⟩, fun c3 => ⟨by omega, fun m8 e8 => nx 1 m8 e8 ?_⟩⟩, fun c => ⟨by omega, h1, h2, fun m8 e8 => nx _ m8 e8 (hv k k0 (by omega) c)⟩⟩
      · rw [vc_e k x k0 (by omega) hx.1 c, if_neg c3]
      · rw [vc_e k x k0 (by omega) hx.1 c, if_pos c3]
  refine t_of (uX0_line_0_A (tFr.rf hs) ⟨fun c3 => ⟨fun c5 => ?_, fun c5 => ?_⟩, fun c3 => ⟨fun c5 => ?_, fun c5 => by omega⟩⟩)
  · refine lp 2 0 (by decide) (by decide) (fun k k0 k1 h => ?_) 3 0 μ (by omega) (by omega) (tFr.rf hs) (fun j j0 j1 => by omega)
    rw [show x = 4 by omega]
    exact (vc_cb μ 2 0 k k0 k1).symm
  · refine lp 2 1 (by decide) (by decide) (fun k k0 k1 h => ?_) 3 0 μ (by omega) (by omega) (tFr.rf hs) (fun j j0 j1 => by omega)
    rw [c5]
    exact (vc_cb μ 2 1 k k0 k1).symm
  · refine lp 1 0 (by decide) (by decide) (fun k k0 k1 h => ?_) 3 0 μ (by omega) (by omega) (tFr.rf hs) (fun j j0 j1 => by omega)
    rw [c3]
    exact (vc_cb μ 1 0 k k0 k1).symm
theorem pX0_lineB {x : Int} (hs : tS μ) (hb : wb μ) (hx : 0 ≤ x ∧ x < 6) : cV (tWs [57] []) mX0_line d [(2, 1), (0, x), (2, 57)] μ (fun m => ∀ k, 0 ≤ k → k < 3 → tm_v m 57 k = vc (lnC μ x) k) := by
  have lp : ∀ one two, (0 ≤ one ∧ one < 3) → (0 ≤ two ∧ two < 3) → (∀ k, 0 ≤ k → k < 3 → 3 ≤ x → tm_v μ (53 + k) one - tm_v μ (53 + k) two = vc (lnC μ x) k) → ∀ (n : Nat) (k : Int) (m : tm_M), 0 ≤ k → k + n = 3 → tFr (tWs [57] []) μ m → (∀ j, 0 ≤ j → j < k → tm_v m 57 j = vc (lnC μ x) j) → hV (tWs [57] []) μ mX0_line d (fun m => ∀ k, 0 ≤ k → k < 3 → tm_v m 57 k = vc (lnC μ x) k) 26 [(0, 2, 1), (1, 0, x), (2, 2, 57), (3, 0, one), (4, 0, two), (5, 0, k)] [] m := by
    intro one two h1 h2 hv n
    induction n with
    | zero =>
      intro k m k0 kn hm hall
      exact uX0_line_26_B hm ⟨fun _ j j0 j1 => hall j j0 (by omega), fun c => by omega⟩
    | succ n ih =>
      intro k m k0 kn hm hall
      have e1 : w32 (k + 1) = k + 1 := w32_id (by omega) (by omega)
      have nx : ∀ y m8, m8 = tm_w m 57 k y → y = vc (lnC μ x) k → hV (tWs [57] []) μ mX0_line d (fun m => ∀ k, 0 ≤ k → k < 3 → tm_v m 57 k = vc (lnC μ x) k) 26 [(0, 2, 1), (1, 0, x), (2, 2, 57), (3, 0, one), (4, 0, two), (5, 0, k + 1)] [] m8 := by
        intro y m8 e8 hy
        refine ih (k + 1) m8 (by omega) (by omega) (by rw [e8]; exact hm.w (tWs_in _ rfl) (tS_w hm.S sf_57 _ _)) (fun j j0 j1 => ?_)
        rw [e8, tm_vw]
        by_cases e : j = k
        · rw [if_pos ⟨rfl, e⟩, e]; exact hy
        · rw [if_neg (fun q => e q.2)]; exact hall j j0 (by omega)
      have c1 := hb k one k0 (by omega) h1.1 h1.2
      have c2 := hb k two k0 (by omega) h2.1 h2.2
      refine uX0_line_26_B hm ⟨fun c => by omega, fun _ => ?_⟩
      rw [e1, w64_id (x := tm_v μ (53 + k) one - tm_v μ (53 + k) two) (by omega) (by omega)]
      refine ⟨fun c => ⟨fun c3 => ⟨by omega, fun m8 e8 => nx 0 m8 e8 ?_⟩, fun c3 => ⟨by omega, fun m8 e8 => nx 1 m8 e8 ?_⟩⟩, fun c => ⟨by omega, h1, h2, fun m8 e8 => nx _ m8 e8 (hv k k0 (by omega) c)⟩⟩
      · rw [vc_e k x k0 (by omega) hx.1 c, if_neg c3]
      · rw [vc_e k x k0 (by omega) hx.1 c, if_pos c3]
  refine t_of (uX0_line_0_B (tFr.rf hs) ⟨fun c3 => ⟨fun c5 => ?_, fun c5 => ?_⟩, fun c3 => ⟨fun c5 => ?_, fun c5 => by omega⟩⟩)
  · refine lp 2 0 (by decide) (by decide) (fun k k0 k1 h => ?_) 3 0 μ (by omega) (by omega) (tFr.rf hs) (fun j j0 j1 => by omega)
    rw [show x = 4 by omega]
    exact (vc_cb μ 2 0 k k0 k1).symm
  · refine lp 2 1 (by decide) (by decide) (fun k k0 k1 h => ?_) 3 0 μ (by omega) (by omega) (tFr.rf hs) (fun j j0 j1 => by omega)
    rw [c5]
    exact (vc_cb μ 2 1 k k0 k1).symm
  · refine lp 1 0 (by decide) (by decide) (fun k k0 k1 h => ?_) 3 0 μ (by omega) (by omega) (tFr.rf hs) (fun j j0 j1 => by omega)
    rw [c3]
    exact (vc_cb μ 1 0 k k0 k1).symm
/-- the point has a greater first chance than the best one, or of like ones a greater second one .. -/
def gtr (p : V3) (s : Int) (q : V3) (t : Int) : Prop := q.1 * t < p.1 * s ∨ (p.1 * s = q.1 * t ∧ (q.2.1 * t < p.2.1 * s ∨ (p.2.1 * s = q.2.1 * t ∧ q.2.2 * t < p.2.2 * s)))
def pt3 (m : tm_M) (c : Int) : V3 := (tm_v m c 0, tm_v m c 1, tm_v m c 2)
def in3 (p : V3) (b : Int) : Prop := (0 ≤ p.1 ∧ p.1 ≤ b) ∧ (0 ≤ p.2.1 ∧ p.2.1 ≤ b) ∧ 0 ≤ p.2.2 ∧ p.2.2 ≤ b
theorem pX0_isGreater {low : Int} (hs : tS μ) (hl : 0 ≤ low ∧ low ≤ 60000) (hb : 0 ≤ tm_v μ 1 46 ∧ tm_v μ 1 46 ≤ 60000) (hp : in3 (pt3 μ 58) 60000) (hq : in3 (pt3 μ 59) 60000) : cI w0 mX0_isGreater d [(2, 1), (1, low)] μ (fun r _ => (r = 0 ∧ ¬ gtr (pt3 μ 58) (tm_v μ 1 46) (pt3 μ 59) low) ∨ (r = 1 ∧ gtr (pt3 μ 58) (tm_v μ 1 46) (pt3 μ 59) low)) := by
  obtain ⟨p0, p1, p2⟩ := hp
  obtain ⟨q0, q1, q2⟩ := hq
  have a0 := mul_bd p0 hb
  have a1 := mul_bd p1 hb
  have a2 := mul_bd p2 hb
  have b0 := mul_bd q0 hl
  have b1 := mul_bd q1 hl
  have b2 := mul_bd q2 hl
  unfold gtr
  simp only [pt3] at *
  have w0e : w64 (tm_v μ 58 0 * tm_v μ 1 46) = tm_v μ 58 0 * tm_v μ 1 46 := w64_id (by omega) (by omega)
  have w1e : w64 (tm_v μ 58 1 * tm_v μ 1 46) = tm_v μ 58 1 * tm_v μ 1 46 := w64_id (by omega) (by omega)
  have w2e : w64 (tm_v μ 58 2 * tm_v μ 1 46) = tm_v μ 58 2 * tm_v μ 1 46 := w64_id (by omega) (by omega)
  have u0e : w64 (tm_v μ 59 0 * low) = tm_v μ 59 0 * low := w64_id (by omega) (by omega)
  have u1e : w64 (tm_v μ 59 1 * low) = tm_v μ 59 1 * low := w64_id (by omega) (by omega)
  have u2e : w64 (tm_v μ 59 2 * low) = tm_v μ 59 2 * low := w64_id (by omega) (by omega)
  refine t_of (uX0_isGreater_0 (tFr.rf hs) ?_)
  refine uX0_isGreater_2 (tFr.rf hs) ⟨fun c => absurd c (by decide), fun _ => ⟨by decide, ?_⟩⟩
  rw [w0e, u0e, show w32 (0 + 1) = 1 by decide]
  refine ⟨fun c => ?_, fun c => ⟨fun c2 => Or.inl ⟨rfl, by omega⟩, fun c2 => Or.inr ⟨rfl, by omega⟩⟩⟩
  refine uX0_isGreater_2 (tFr.rf hs) ⟨fun c => absurd c (by decide), fun _ => ⟨by decide, ?_⟩⟩
  rw [w1e, u1e, show w32 (1 + 1) = 2 by decide]
  refine ⟨fun c1 => ?_, fun c1 => ⟨fun c2 => Or.inl ⟨rfl, by omega⟩, fun c2 => Or.inr ⟨rfl, by omega⟩⟩⟩
  refine uX0_isGreater_2 (tFr.rf hs) ⟨fun c => absurd c (by decide), fun _ => ⟨by decide, ?_⟩⟩
  rw [w2e, u2e, show w32 (2 + 1) = 3 by decide]
  refine ⟨fun c2 => ?_, fun c2 => ⟨fun c3 => Or.inl ⟨rfl, by omega⟩, fun c3 => Or.inr ⟨rfl, by omega⟩⟩⟩
  exact uX0_isGreater_2 (tFr.rf hs) ⟨fun _ => Or.inl ⟨rfl, by omega⟩, fun c => absurd c (by decide)⟩
end C0W
