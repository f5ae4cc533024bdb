/-! CONTRACTS of the component: small methods -/
section C0A
variable {d : Nat} {μ μ0 ν : tm_M} {W : Int → Int → Prop}
theorem pX0_is {x : Int} (hs : tS μ) : cI (tWs [] [(1, 10)]) mX0_is d [(2, 1), (0, x)] μ (fun r μ' => r = b2i (x = 0) ∧ μ' = tm_w μ 1 10 x) :=
  t_of (uX0_is_0 (tFr.rf hs) (fun m e => ⟨fun c => ⟨(b2i_f c).symm, e⟩, fun c => ⟨(b2i_t c).symm, e⟩⟩))
theorem pX0_none {x : Int} (hs : tS μ) : cI (tWs [] [(1, 10)]) mX0_none d [(2, 1), (0, x)] μ (fun r μ' => r = -1 ∧ μ' = tm_w μ 1 10 x) :=
  t_of (uX0_none_0 (tFr.rf hs) (fun m e => ⟨rfl, e⟩))
theorem pX0_gives {x : Int} (hs : tS μ) : cI (tWs [] [(1, 10)]) mX0_gives d [(2, 1), (0, x)] μ (fun r μ' => r = x ∧ μ' = tm_w μ 1 10 0) :=
  t_of (uX0_gives_0 (tFr.rf hs) (fun m e => ⟨rfl, e⟩))
theorem pX0_status (hs : tS μ) : cI w0 mX0_status d [(2, 1)] μ (fun r _ => r = tm_v μ 1 10) := t_of (uX0_status_0 (tFr.rf hs) rfl)
theorem pX0_top (hs : tS μ) : cL w0 mX0_top d [(2, 1)] μ (fun r _ => r = tm_v μ 1 14) := t_of (uX0_top_0 (tFr.rf hs) rfl)
theorem pX0_bottom (hs : tS μ) : cL w0 mX0_bottom d [(2, 1)] μ (fun r _ => r = tm_v μ 1 15) := t_of (uX0_bottom_0 (tFr.rf hs) rfl)
theorem pX0_fault {w : Int} (hs : tS μ) : cI w0 mX0_fault d [(2, 1), (0, w)] μ (fun r _ => r = if w = 0 then tm_v μ 1 11 else if w = 1 then tm_v μ 1 12 else -1) :=
  t_of (uX0_fault_0 (tFr.rf hs) ⟨fun c => ⟨fun c2 => by rw [if_neg c, if_neg c2], fun c2 => by rw [if_neg c, if_pos c2]⟩, fun c => by rw [if_pos c]⟩)
theorem pX0_isTray {t : Int} (hs : tFr W μ0 μ) (_ : y_TC (c_FA μ0) W) : cI w0 mX0_isTray d [(0, t)] μ (fun r _ => r = b2i (0 ≤ t ∧ t < 4)) :=
  t_of (uX0_isTray_0 (tFr.rf hs.S) ⟨fun c => (b2i_f (by omega)).symm, fun c => ⟨fun c2 => (b2i_f (by omega)).symm, fun c2 => (b2i_t (by omega)).symm⟩⟩)
theorem pX0_isFrom {v lo hi : Int} (hs : tFr W μ0 μ) (_ : y_TC (c_FA μ0) W) : cI w0 mX0_isFrom d [(1, v), (1, lo), (1, hi)] μ (fun r _ => r = b2i (lo ≤ v ∧ v ≤ hi)) :=
  t_of (uX0_isFrom_0 (tFr.rf hs.S) ⟨fun c => (b2i_f (by omega)).symm, fun c => ⟨fun c2 => (b2i_f (by omega)).symm, fun c2 => (b2i_t (by omega)).symm⟩⟩)
theorem pX0_isPlace {p : Int} (hs : tFr W μ0 μ) (hT : y_TC (c_FA μ0) W) (hJ : JU μ0 ν) : cI w0 mX0_isPlace d [(2, 1), (0, p)] μ (fun r _ => r = b2i (0 ≤ p ∧ p < tm_v ν 65 20)) := by
  have hJ' := JU_F hJ hs hT
  have e : tm_v μ (tm_v μ 1 8) 2 = tm_v ν 65 20 := by exact hJ'.2.2.1.1
  refine t_of (uX0_isPlace_0 (tFr.rf hs.S) ⟨fun c => (b2i_f (by omega)).symm, fun c => ⟨hJ'.T, ?_⟩⟩)
  rw [e]
  exact ⟨fun c2 => (b2i_f (by omega)).symm, fun c2 => (b2i_t (by omega)).symm⟩
theorem pX0_isLane {p : Int} (hs : tFr W μ0 μ) (hT : y_TC (c_FA μ0) W) (hJ : JU μ0 ν) : cI w0 mX0_isLane d [(2, 1), (0, p)] μ (fun r _ => r = b2i (0 ≤ p ∧ p < tm_v ν 65 21)) := by
  have hJ' := JU_F hJ hs hT
  have e : tm_v μ (tm_v μ 1 8) 3 = tm_v ν 65 21 := by exact hJ'.2.2.1.2.1
  refine t_of (uX0_isLane_0 (tFr.rf hs.S) ⟨fun c => (b2i_f (by omega)).symm, fun c => ⟨hJ'.T, ?_⟩⟩)
  rw [e]
  exact ⟨fun c2 => (b2i_f (by omega)).symm, fun c2 => (b2i_t (by omega)).symm⟩
theorem pX0_likely {a b : Int} (hs : tFr W μ0 μ) (hT : y_TC (c_FA μ0) W) (hc : JU μ0 ν ∧ y_p ν a ∧ y_p ν b) : cL w0 mX0_likely d [(2, 1), (0, a), (0, b)] μ (fun r _ => r = y_likely ν a b) := by
  obtain ⟨hJ, ha, hb⟩ := hc
  have hJ' := JU_F hJ hs hT
  have ha' := ha
  have hb' := hb
  have pa := hJ'.P ha'
  have pb := hJ'.P hb'
  have a8 := y_p8 ha
  have b8 := y_p8 hb
  have hl := y_lik_in ha' hb'
  have hn := hJ'.PA.2
  refine t_of (uX0_likely_0 (tFr.rf hs.S) ⟨hJ'.T, hJ'.PA.1, ⟨a8.1, by show a < tm_n μ (c_PA μ); omega⟩, pa.1, ⟨b8.1, by show b < tm_n μ (c_PA μ); omega⟩, pb.1, ?_⟩)
  show w64 (tm_v μ (c_P μ a) 3 * tm_v μ (c_P μ b) 4) = _
  rw [pa.2.2.1.2.1, pb.2.2.1.2.2.1]
  exact w64_id (by unfold y_likely at hl; omega) (by unfold y_likely at hl; omega)
theorem pX8_other {l k : Int} (hs : tS μ) (hJ : JU μ ν) (l0 : 0 ≤ l) (l1 : l < tm_v ν 65 21) (hk : y_p ν k) : cR w0 mX8_other d [(2, c_L μ l), (2, c_P μ k)] μ (fun r _ => r = c_P μ (y_over ν l k)) := by
  obtain ⟨h1, h2, h3, h4⟩ := hJ.L l0 l1
  have hw := hJ.1.2.2.2.1 l l0 l1
  have hp1 : y_p ν (tm_v ν 76 l) := ⟨hJ.1, hw.1⟩
  refine t_of (uX8_other_0 (tFr.rf hs) ⟨h1, ?_⟩)
  rw [h2, h3]
  unfold y_over
  refine ⟨fun c => ?_, fun c => ?_⟩
  · rw [if_neg (fun e => c (by rw [e]))]
  · rw [if_pos (hJ.inj hp1 hk c.symm)]
/-- p is a place of the town -/
def isP (μ ν : tm_M) (p : Int) : Prop := ∃ k, y_p ν k ∧ p = c_P μ k
end C0A
