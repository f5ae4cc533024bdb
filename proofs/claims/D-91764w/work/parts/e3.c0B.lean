/-! CONTRACTS of the component: the tape -/
section C0B2
variable {d : Nat} {μ μ0 ν : tm_M} {W : Int → Int → Prop}
abbrev WTp : Int → Int → Prop := tWs [5] [(4, 1)]
theorem pX0_four {v : Int} (hs : tS μ) (hc : 0 ≤ tm_v μ 4 1 ∧ tm_v μ 4 1 ≤ 496) : cV WTp mX0_four d [(2, 1), (0, v)] μ (fun m => tm_v m 5 = lay4 (tm_v μ 5) (tm_v μ 4 1) v ∧ tm_v m 4 1 = tm_v μ 4 1 + 4) := by
  have one : ∀ (k k' : Int) (m : tm_M) (K : tm_M → Prop), 0 ≤ k → w32 (k + -8) = k' → tFr WTp μ m → (0 ≤ tm_v m 4 1 ∧ tm_v m 4 1 < 500) → (∀ m', tFr WTp μ m' → tm_v m' 5 = fup (tm_v m 5) (tm_v m 4 1) (w8 (i_shr v k)) → tm_v m' 4 1 = tm_v m 4 1 + 1 → hV WTp μ mX0_four d K 3 [(0, 2, 1), (1, 0, v), (2, 0, k')] [] m') → hV WTp μ mX0_four d K 3 [(0, 2, 1), (1, 0, v), (2, 0, k)] [] m := by
    intro k k' m K k0 ek hm hb kk
    refine uX0_four_3 hm ⟨fun c => by omega, fun _ => ⟨hb, fun m4 e4 m5 e5 => ?_⟩⟩
    rw [ek]
    have F4 : tFr WTp μ m4 := by rw [e4]; exact hm.w (tWs_in _ rfl) (tS_w hm.S sf_5 _ _)
    have v4 : tm_v m4 4 1 = tm_v m 4 1 := by rw [e4, tm_vw, if_neg (by omega)]
    refine kk m5 (by rw [e5]; exact F4.w (tWs_inF rfl) (tS_wj F4.S _ (by decide))) ?_ ?_
    · rw [e5, vw_ne _ _ _ (by decide), e4, vw_fup]
    · rw [e5, tm_vw, if_pos ⟨rfl, rfl⟩, v4, w32_id (by omega) (by omega)]
  refine t_of (uX0_four_0 (tFr.rf hs) ?_)
  refine one 24 16 μ _ (by decide) (by decide) (tFr.rf hs) (by omega) (fun m1 f1 a1 b1 => ?_)
  refine one 16 8 m1 _ (by decide) (by decide) f1 (by omega) (fun m2 f2 a2 b2 => ?_)
  refine one 8 0 m2 _ (by decide) (by decide) f2 (by omega) (fun m3 f3 a3 b3 => ?_)
  refine one 0 (-8) m3 _ (by decide) (by decide) f3 (by omega) (fun m4 f4 a4 b4 => ?_)
  refine uX0_four_3 f4 ⟨fun _ => ⟨?_, by omega⟩, fun c => absurd c (by decide)⟩
  unfold lay4
  rw [a4, b3, b2, b1, a3, b2, b1, a2, b1, a1]
/-- the component's tape is the model's -/
def JP (μ ν : tm_M) : Prop := (0 ≤ tm_v ν 65 8 ∧ tm_v ν 65 8 ≤ 500) ∧ tm_v μ 4 1 = tm_v ν 65 8 ∧ ∀ j, 0 ≤ j → j < 500 → tm_v μ 5 j = tm_v ν 69 j
theorem lay4_cg {T T' : Int → Int} {k v : Int} (h : ∀ j, 0 ≤ j → j < 500 → T j = T' j) : ∀ j, 0 ≤ j → j < 500 → lay4 T k v j = lay4 T' k v j := by
  intro j j0 j1
  unfold lay4 fup
  rw [h j j0 j1]
def c_feed (μ ν : tm_M) (p q r s t x : Int) (m : tm_M) : Prop := x = (if tm_v ν 65 8 ≤ 480 then tm_v ν 65 8 + 20 else -1) ∧ tm_v m 4 1 = (if tm_v ν 65 8 ≤ 480 then tm_v ν 65 8 + 20 else tm_v ν 65 8) ∧ ∀ j, 0 ≤ j → j < 500 → tm_v m 5 j = if tm_v ν 65 8 ≤ 480 then lay20 (tm_v ν 69) (tm_v ν 65 8) p q r s t j else tm_v ν 69 j
theorem pX0_feed {p q r s t : Int} (hd : 1 ≤ d) (hs : tS μ) (hP : JP μ ν) : cI WTp mX0_feed d [(2, 1), (0, p), (0, q), (0, r), (0, s), (0, t)] μ (c_feed μ ν p q r s t) := by
  obtain ⟨h1, h2, h3⟩ := hP
  refine t_of (uX0_feed_0 hd (tFr.rf hs) ?_)
  unfold c_feed
  rw [h2, w32_id (x := tm_v ν 65 8 + 20) (by omega) (by omega)]
  refine ⟨fun c => ?_, fun c => ?_⟩
  · refine tC.V (pX0_four hs (by omega)) (fun m1 f1 g1 => ?_)
    refine tC.V (pX0_four f1.S (by omega)) (fun m2 f2 g2 => ?_)
    refine tC.V (pX0_four f2.S (by omega)) (fun m3 f3 g3 => ?_)
    refine tC.V (pX0_four f3.S (by omega)) (fun m4 f4 g4 => ?_)
    refine tC.V (pX0_four f4.S (by omega)) (fun m5 f5 g5 => ?_)
    rw [if_pos (by omega), if_pos (by omega)]
    refine ⟨by omega, by omega, fun j j0 j1 => ?_⟩
    rw [if_pos (by omega), g5.1, g4.1, g3.1, g2.1, g1.1, g4.2, g3.2, g2.2, g1.2, h2]
    unfold lay20
    rw [show tm_v ν 65 8 + 4 + 4 + 4 + 4 = tm_v ν 65 8 + 16 by omega, show tm_v ν 65 8 + 4 + 4 + 4 = tm_v ν 65 8 + 12 by omega, show tm_v ν 65 8 + 4 + 4 = tm_v ν 65 8 + 8 by omega]
    exact lay4_cg (lay4_cg (lay4_cg (lay4_cg (lay4_cg h3)))) j j0 j1
  · rw [if_neg (by omega), if_neg (by omega)]
    exact ⟨rfl, rfl, fun j j0 j1 => by rw [if_neg (by omega)]; exact h3 j j0 j1⟩
end C0B2
