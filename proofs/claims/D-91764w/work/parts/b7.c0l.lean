/-! CONTRACTS of the component: trays -/
section C0L
variable {d : Nat} {μ μ0 ν : tm_M} {W : Int → Int → Prop} {t k : Int}
/-- the kind of a tray's row, by its sort -/
def yk (s : Int) : Nat := if s = 0 then 22 else if s = 1 then 23 else if s = 2 then 20 else 21
/-- a tray's row -/
def c_Y (μ : tm_M) (t : Int) : Int := tm_v μ (61 + t) 0
/-- the component's trays are the model's -/
def JY (μ ν : tm_M) : Prop := y_Y ν ∧ (∀ t, 0 ≤ t → t < 4 → (tm_v ν 67 t < 0 → c_Y μ t = 0 ∧ tm_v μ (61 + t) 1 = 0) ∧
  (0 ≤ tm_v ν 67 t → tm_v μ (61 + t) 1 = tm_v ν 66 t ∧ ob μ (c_Y μ t) (yk (tm_v ν 66 t)) ∧ c_Y μ t ≠ c_FA μ ∧ tm_n μ (c_Y μ t) = tm_v ν 67 t ∧ ∀ k, 0 ≤ k → k < tm_v ν 67 t → tm_v μ (c_Y μ t) k = tm_v ν 68 (64 * t + k))) ∧
  ∀ t u, 0 ≤ t → t < 4 → 0 ≤ u → u < 4 → 0 ≤ tm_v ν 67 t → c_Y μ t = c_Y μ u → t = u
/-- W leaves the trays -/
def y_YC (W : Int → Int → Prop) : Prop := ∀ a j, 61 ≤ a → a ≤ 64 → ¬ W a j
theorem tWs_YC {A : List Int} {B : List (Int × Int)} (h : (A.all (fun q => decide (q < 61 ∨ 64 < q)) && B.all (fun q => decide (q.1 < 61 ∨ 64 < q.1))) = true) : y_YC (tWs A B) := by
  intro a j h1 h2 hw
  rw [Bool.and_eq_true] at h
  rcases hw with q | q
  · have := of_decide_eq_true (List.all_eq_true.mp h.1 a q); omega
  · have := of_decide_eq_true (List.all_eq_true.mp h.2 _ q); dsimp only at this; omega
theorem tWf_YC {A : List Int} {B : List (Int × Int)} {f : Int} (hf : dyA f ∧ tm_k μ f = 20) (h : (A.all (fun q => decide (q < 61 ∨ 64 < q)) && B.all (fun q => decide (q.1 < 61 ∨ 64 < q.1))) = true) : y_YC (tWf A B f) := by
  intro a j h1 h2 hw
  have := hf.1
  unfold dyA at this
  rcases hw with q | q
  · exact tWs_YC h a j h1 h2 q
  · omega
theorem tW1_YC {w : Int} (hw : 7 ≤ w ∧ w ≤ 9) : y_YC (tWs [w] []) := fun a j h1 h2 => tW1_no (by omega)
theorem c_Y_F (hs : tFr W μ0 μ) (hY : y_YC W) (h0 : 0 ≤ t) (h4 : t < 4) : c_Y μ t = c_Y μ0 t := hs.v (hY _ _ (by omega) (by omega))
theorem JY_F {ν' : tm_M} (hJ : JU μ0 ν') (h : JY μ0 ν) (hs : tFr W μ0 μ) (hT : y_TC (c_FA μ0) W) (hY : y_YC W) : JY μ ν := by
  obtain ⟨h1, h2, h3⟩ := h
  have eF := c_FA_F hJ hs hT
  refine ⟨h1, fun t t0 t4 => ?_, fun t u t0 t4 u0 u4 hn e => h3 t u t0 t4 u0 u4 hn (by rw [← c_Y_F hs hY t0 t4, ← c_Y_F hs hY u0 u4]; exact e)⟩
  obtain ⟨a1, a2⟩ := h2 t t0 t4
  rw [c_Y_F hs hY t0 t4, hs.v (hY _ 1 (by omega) (by omega)), eF, hs.n]
  refine ⟨a1, fun hn => ?_⟩
  obtain ⟨b1, b2, b3, b4, b5⟩ := a2 hn
  refine ⟨b1, ob_F hs b2, b3, b4, fun k k0 k1 => ?_⟩
  rw [hs.v (hT.2.2 _ k b2.2 b3)]
  exact b5 k k0 k1
theorem JY.many (h : JY μ ν) (hs : tS μ) (t0 : 0 ≤ t) (t4 : t < 4) (hn : 0 ≤ tm_v ν 67 t) : cI w0 mX5_many d [(2, 61 + t)] μ (fun r _ => r = tm_v ν 67 t) := by
  obtain ⟨b1, b2, b3, b4, b5⟩ := (h.2.1 t t0 t4).2 hn
  have hy := (h.1 t t0 t4).1
  have hk : 1 ≤ 61 + t ∧ tm_k μ (61 + t) = 5 := ⟨by omega, sak_2 hs t0 t4⟩
  refine t_of (uX5_many_0 (tFr.rf hs) ⟨hk, ?_⟩)
  rw [b1]
  have eY : tm_v μ (61 + t) 0 = c_Y μ t := rfl
  rw [eY, b4]
  unfold yk at b2
  refine ⟨fun c0 => ⟨fun c1 => ⟨fun c2 => ?_, fun c2 => ?_⟩, fun c1 => ?_⟩, fun c0 => ?_⟩
  · rw [if_neg c0, if_neg c1, if_neg c2] at b2; exact ⟨b2, rfl⟩
  · rw [if_neg c0, if_neg c1, if_pos c2] at b2; exact ⟨b2, rfl⟩
  · rw [if_neg c0, if_pos c1] at b2; exact ⟨b2, rfl⟩
  · rw [if_pos c0] at b2; exact ⟨b2, rfl⟩
theorem JY.get (h : JY μ ν) (hs : tS μ) (t0 : 0 ≤ t) (t4 : t < 4) (k0 : 0 ≤ k) (k1 : k < tm_v ν 67 t) : cL w0 mX5_get d [(2, 61 + t), (0, k)] μ (fun r _ => r = tm_v ν 68 (64 * t + k)) := by
  obtain ⟨b1, b2, b3, b4, b5⟩ := (h.2.1 t t0 t4).2 (by omega)
  have hy := (h.1 t t0 t4).1
  have hk : 1 ≤ 61 + t ∧ tm_k μ (61 + t) = 5 := ⟨by omega, sak_2 hs t0 t4⟩
  refine t_of (uX5_get_0 (tFr.rf hs) ⟨hk, ?_⟩)
  rw [b1]
  have eY : tm_v μ (61 + t) 0 = c_Y μ t := rfl
  rw [eY, b4, b5 k k0 k1]
  unfold yk at b2
  refine ⟨fun c0 => ⟨fun c1 => ⟨fun c2 => ?_, fun c2 => ?_⟩, fun c1 => ?_⟩, fun c0 => ?_⟩
  · rw [if_neg c0, if_neg c1, if_neg c2] at b2; exact ⟨b2, ⟨k0, k1⟩, rfl⟩
  · rw [if_neg c0, if_neg c1, if_pos c2] at b2; exact ⟨b2, ⟨k0, k1⟩, rfl⟩
  · rw [if_neg c0, if_pos c1] at b2; exact ⟨b2, ⟨k0, k1⟩, rfl⟩
  · rw [if_pos c0] at b2; exact ⟨b2, ⟨k0, k1⟩, rfl⟩
/-- cell x is a tray that is there -/
def isY (ν : tm_M) (x : Int) : Prop := 0 ≤ x - 61 ∧ x - 61 < 4 ∧ 0 ≤ tm_v ν 67 (x - 61)
theorem pX5_many {x : Int} (hs : tFr W μ0 μ) (hT : y_TC (c_FA μ0) W) (hc : (JU μ0 ν ∧ JY μ0 ν) ∧ isY ν x) (hY : y_YC W := by first | exact tWs_YC rfl | exact tWf_YC (by assumption) rfl) : cI w0 mX5_many d [(2, x)] μ (fun r _ => r = tm_v ν 67 (x - 61)) := by
  have k := (JY_F hc.1.1 hc.1.2 hs hT hY).many (d := d) hs.S hc.2.1 hc.2.2.1 hc.2.2.2
  rw [show 61 + (x - 61) = x by omega] at k
  exact k
theorem pX5_get {x : Int} (hs : tFr W μ0 μ) (hT : y_TC (c_FA μ0) W) (hc : (JU μ0 ν ∧ JY μ0 ν) ∧ isY ν x ∧ 0 ≤ k ∧ k < tm_v ν 67 (x - 61)) (hY : y_YC W := by first | exact tWs_YC rfl | exact tWf_YC (by assumption) rfl) : cL w0 mX5_get d [(2, x), (0, k)] μ (fun r _ => r = tm_v ν 68 (64 * (x - 61) + k)) := by
  have q := (JY_F hc.1.1 hc.1.2 hs hT hY).get (d := d) hs.S hc.2.1.1 hc.2.1.2.1 hc.2.2.1 hc.2.2.2
  rw [show 61 + (x - 61) = x by omega] at q
  exact q
end C0L
