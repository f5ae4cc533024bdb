/-! THE INVARIANT of the law's loop -/
section NU
variable {μ ν ν' : tm_M}
theorem JU_nu (h : JU μ ν) (e70 : tm_v ν' 70 = tm_v ν 70) (e72 : tm_v ν' 72 = tm_v ν 72) (e74 : tm_v ν' 74 = tm_v ν 74) (e76 : tm_v ν' 76 = tm_v ν 76) (e77 : tm_v ν' 77 = tm_v ν 77) (e80 : tm_v ν' 80 = tm_v ν 80) (f20 : tm_v ν' 65 20 = tm_v ν 65 20) (f21 : tm_v ν' 65 21 = tm_v ν 65 21) (f24 : tm_v ν' 65 24 = tm_v ν 65 24) (f25 : tm_v ν' 65 25 = tm_v ν 65 25) (f28 : tm_v ν' 65 28 = tm_v ν 65 28) : JU μ ν' := by
  unfold JU y_W at h ⊢
  simp only [e70, e72, e74, e76, e77, e80, f20, f21, f24, f25, f28]
  exact h
theorem JV_nu (h : JV μ ν) (e82 : tm_v ν' 82 = tm_v ν 82) (e83 : tm_v ν' 83 = tm_v ν 83) (e84 : tm_v ν' 84 = tm_v ν 84) (f43 : tm_v ν' 65 43 = tm_v ν 65 43) : JV μ ν' := by
  unfold JV y_V at h ⊢
  simp only [e82, e83, e84, f43]
  exact h
theorem JY_nu (h : JY μ ν) (e66 : tm_v ν' 66 = tm_v ν 66) (e67 : tm_v ν' 67 = tm_v ν 67) (e68 : tm_v ν' 68 = tm_v ν 68) : JY μ ν' := by
  unfold JY y_Y at h ⊢
  simp only [e66, e67, e68]
  exact h
theorem JC_nu (h : JC μ ν) (e93 : tm_v ν' 93 = tm_v ν 93) (f54 : tm_v ν' 65 54 = tm_v ν 65 54) (f59 : tm_v ν' 65 59 = tm_v ν 65 59) : JC μ ν' := by
  unfold JC at h ⊢
  simp only [e93, f54, f59]
  exact h
theorem yC_nu (h : y_C ν) (e93 : tm_v ν' 93 = tm_v ν 93) (f54 : tm_v ν' 65 54 = tm_v ν 65 54) (f59 : tm_v ν' 65 59 = tm_v ν 65 59) : y_C ν' := by
  unfold y_C at h ⊢
  simp only [e93, f54, f59]
  exact h
end NU
/-- no way's row is a tray's -/
def JX (μ ν : tm_M) : Prop := ∀ w t, 0 ≤ w → w < tm_v ν 65 43 → 0 ≤ t → t < 4 → 0 ≤ tm_v ν 67 t → c_R μ w ≠ c_Y μ t
theorem cR_eq {μ μ0 ν : tm_M} {w : Int} (hV : JV μ0 ν) (w0 : 0 ≤ w) (w1 : w < tm_v ν 65 43) (h6 : tm_v μ 6 w = tm_v μ0 6 w) (hv : ∀ (x : Int) (k : Nat), ob μ0 x k → k ≠ 20 → k = 9 ∨ k = 10 ∨ k = 11 → tm_v μ x 0 = tm_v μ0 x 0) : c_R μ w = c_R μ0 w := by
  obtain ⟨v1, v2, v3⟩ := hV
  obtain ⟨⟨b1, b2⟩, b3, b4⟩ := v3 w w0 w1
  have obW : ∃ k : Nat, (k = 9 ∨ k = 10 ∨ k = 11) ∧ ob μ0 (c_W μ0 w) k := by
    by_cases c : 0 < tm_v ν 82 w
    · by_cases g : tm_v ν 84 w = 0
      · exact ⟨9, by omega, (b3 c).1 g⟩
      · exact ⟨10, by omega, (b3 c).2.1 g⟩
    · have := (v1.2 w w0 w1).1
      exact ⟨11, by omega, (b4 (by omega)).1⟩
  obtain ⟨k, hk, ho⟩ := obW
  unfold c_R
  rw [show c_W μ w = c_W μ0 w from h6, hv _ k ho (by omega) hk]
theorem JX_of {μ μ0 ν : tm_M} (h : JX μ0 ν) (hV : JV μ0 ν) (h6 : ∀ w, tm_v μ 6 w = tm_v μ0 6 w) (hv : ∀ (x : Int) (k : Nat), ob μ0 x k → k ≠ 20 → k = 9 ∨ k = 10 ∨ k = 11 → tm_v μ x 0 = tm_v μ0 x 0) (hY : ∀ t, 0 ≤ t → t < 4 → tm_v μ (61 + t) 0 = tm_v μ0 (61 + t) 0) : JX μ ν := by
  intro w t w0 w1 t0 t4 hn
  rw [cR_eq hV w0 w1 (h6 w) hv, show c_Y μ t = c_Y μ0 t from hY t t0 t4]
  exact h w t w0 w1 t0 t4 hn
theorem JX_nu {μ ν ν' : tm_M} (h : JX μ ν) (e67 : tm_v ν' 67 = tm_v ν 67) (f43 : tm_v ν' 65 43 = tm_v ν 65 43) : JX μ ν' := by
  unfold JX at h ⊢
  rw [e67, f43]
  exact h
theorem JX_F {μ μ0 ν : tm_M} {W : Int → Int → Prop} (hJ : JU μ0 ν) (hV : JV μ0 ν) (h : JX μ0 ν) (hs : tFr W μ0 μ) (hT : y_TC (c_FA μ0) W) (hC : y_VC W) (hY : y_YC W) : JX μ ν :=
  JX_of h hV (fun w => hs.v (hC.1 w)) (fun x k ho hk _ => c_v hJ hs hT ho hk) (fun t t0 t4 => hs.v (hY _ _ (by omega) (by omega)))
/-- the rows that were told -/
def JA (μ ν : tm_M) : Prop := ((0 ≤ tm_v ν 65 52 ∧ tm_v ν 65 52 ≤ 3) ∧ tm_v μ 1 28 = tm_v ν 65 52 ∧ ∀ w k, 0 ≤ w → w ≤ 1 → 0 ≤ k → k < tm_v ν 65 52 → tm_v μ (42 + w) k = tm_v ν 90 (2 * k + w)) ∧
  (0 ≤ tm_v ν 65 53 ∧ tm_v ν 65 53 ≤ 5) ∧ tm_v μ 1 29 = tm_v ν 65 53 ∧ ∀ k, 0 ≤ k → k < tm_v ν 65 53 → tm_v μ 44 k = tm_v ν 91 k
/-- what an answer alone leaves -/
def IS (μ : tm_M) : Prop := tS μ ∧ JU μ μ ∧ JV μ μ ∧ (JY μ μ ∧ JX μ μ) ∧ (JC μ μ ∧ y_C μ) ∧ JP μ μ ∧ (tm_v μ 1 11 = tm_v μ 65 10 ∧ tm_v μ 1 12 = tm_v μ 65 11) ∧ tm_v μ 1 13 = tm_v μ 65 30 ∧ JA μ μ
def IV (μ : tm_M) : Prop := IS μ ∧ tm_v μ 1 10 = tm_v μ 65 0 ∧ JF μ μ
def fbA : List Int := [5, 6, 42, 43, 44, 60, 61, 62, 63, 64, 66, 67, 68, 69, 70, 72, 74, 76, 77, 80, 82, 83, 84, 90, 91, 93]
def fbF : List (Int × Int) := [(1, 8), (1, 9), (1, 11), (1, 12), (1, 13), (1, 28), (1, 29), (1, 47), (4, 1), (65, 8), (65, 10), (65, 11), (65, 20), (65, 21), (65, 24), (65, 25), (65, 28), (65, 30), (65, 43), (65, 52), (65, 53), (65, 54), (65, 59)]
def chk (A : List Int) (B : List (Int × Int)) : Bool := A.all (fun a => !decide (a ∈ fbA) && decide (a ≠ 1 ∧ a ≠ 4 ∧ a ≠ 65) && decide (a < 104 ∧ ¬ (11 ≤ a ∧ a ≤ 14))) && B.all (fun q => !decide (q.1 ∈ fbA) && !decide (q ∈ fbF) && decide (q.1 < 104 ∧ ¬ (11 ≤ q.1 ∧ q.1 ≤ 14)))
section CHK
variable {A : List Int} {B : List (Int × Int)} {f : Int} {μ m : tm_M}
theorem chk_A (h : chk A B = true) (hf : dyA f) : ∀ a j, a ∈ fbA → ¬ tWf A B f a j := by
  unfold chk at h
  simp only [Bool.and_eq_true, List.all_eq_true] at h
  rintro a j ha ((q | q) | q)
  · have := (h.1 a q).1.1
    simp only [Bool.not_eq_true', decide_eq_false_iff_not] at this
    exact this ha
  · have := (h.2 _ q).1.1
    simp only [Bool.not_eq_true', decide_eq_false_iff_not] at this
    exact this ha
  · subst q
    unfold dyA at hf
    unfold fbA at ha
    simp only [List.mem_cons, List.not_mem_nil, or_false] at ha
    omega
theorem chk_F (h : chk A B = true) (hf : dyA f) : ∀ a j, (a, j) ∈ fbF → ¬ tWf A B f a j := by
  unfold chk at h
  simp only [Bool.and_eq_true, List.all_eq_true] at h
  rintro a j ha ((q | q) | q)
  · have := (h.1 a q).1.2
    simp only [decide_eq_true_eq] at this
    unfold fbF at ha
    simp only [List.mem_cons, List.not_mem_nil, or_false, Prod.mk.injEq] at ha
    omega
  · have := (h.2 _ q).1.2
    simp only [Bool.not_eq_true', decide_eq_false_iff_not] at this
    exact this ha
  · subst q
    unfold dyA at hf
    unfold fbF at ha
    simp only [List.mem_cons, List.not_mem_nil, or_false, Prod.mk.injEq] at ha
    omega
theorem chk_D (h : chk A B = true) : ∀ a j, dyA a → a ≠ f → ¬ tWf A B f a j := by
  unfold chk at h
  simp only [Bool.and_eq_true, List.all_eq_true] at h
  rintro a j ha hne ((q | q) | q)
  · have := (h.1 a q).2
    simp only [decide_eq_true_eq] at this
    unfold dyA at ha
    omega
  · have := (h.2 _ q).2
    simp only [decide_eq_true_eq] at this
    unfold dyA at ha
    omega
  · exact hne q
theorem IS2 (h : IS μ) (fr : tFr (tWf A B (c_FA μ)) μ m) (hc : chk A B = true) : IS m := by
  obtain ⟨hs, hJ, hV, ⟨hY, hX⟩, ⟨hC, hyC⟩, hP, hft, hmk, hA⟩ := h
  have hf : dyA (c_FA μ) := hJ.FA.1.2
  have vA : ∀ a, a ∈ fbA → tm_v m a = tm_v μ a := fun a ha => funext fun j => fr.v (chk_A hc hf a j ha)
  have vF : ∀ a j, (a, j) ∈ fbF → tm_v m a j = tm_v μ a j := fun a j ha => fr.v (chk_F hc hf a j ha)
  have nA : ∀ a j, a ∈ fbA → ¬ tWf A B (c_FA μ) a j := chk_A hc hf
  have nF : ∀ a j, (a, j) ∈ fbF → ¬ tWf A B (c_FA μ) a j := chk_F hc hf
  have hT : y_TC (c_FA μ) (tWf A B (c_FA μ)) := by
    refine ⟨⟨fun j => ⟨nA _ _ (by decide), nA _ _ (by decide), nA _ _ (by decide), nA _ _ (by decide), nA _ _ (by decide), nA _ _ (by decide), nA _ _ (by decide), nA _ _ (by decide), nA _ _ (by decide)⟩, nF _ _ (by decide), nF _ _ (by decide), nF _ _ (by decide), nF _ _ (by decide), nF _ _ (by decide), nF _ _ (by decide), nF _ _ (by decide)⟩, nF _ _ (by decide), chk_D hc⟩
  have hVC : y_VC (tWf A B (c_FA μ)) := ⟨fun j => nA _ _ (by decide), nF _ _ (by decide)⟩
  have hYC : y_YC (tWf A B (c_FA μ)) := fun a j h1 h2 => by
    rcases (show a = 61 ∨ a = 62 ∨ a = 63 ∨ a = 64 by omega) with rfl | rfl | rfl | rfl <;> exact nA _ _ (by decide)
  have a66 := vA 66 (by decide)
  refine ⟨fr.S, JU_nu (JU_F hJ fr hT) (vA _ (by decide)) (vA _ (by decide)) (vA _ (by decide)) (vA _ (by decide)) (vA _ (by decide)) (vA _ (by decide)) (vF _ _ (by decide)) (vF _ _ (by decide)) (vF _ _ (by decide)) (vF _ _ (by decide)) (vF _ _ (by decide)), JV_nu (JV_F hJ hV fr hT hVC) (vA _ (by decide)) (vA _ (by decide)) (vA _ (by decide)) (vF _ _ (by decide)), ⟨JY_nu (JY_F hJ hY fr hT hYC) (vA _ (by decide)) (vA _ (by decide)) (vA _ (by decide)), JX_nu (JX_F hJ hV hX fr hT hVC hYC) (vA _ (by decide)) (vF _ _ (by decide))⟩, ⟨?_, yC_nu hyC (vA _ (by decide)) (vF _ _ (by decide)) (vF _ _ (by decide))⟩, ?_, ?_, ?_, ?_⟩
  · refine JC_nu (ν := μ) ?_ (vA _ (by decide)) (vF _ _ (by decide)) (vF _ _ (by decide))
    unfold JC pt3 at hC ⊢
    rw [vF 1 47 (by decide), vA 60 (by decide)]
    exact hC
  · unfold JP at hP ⊢
    rw [vF 65 8 (by decide), vF 4 1 (by decide), vA 5 (by decide), vA 69 (by decide)]
    exact hP
  · rw [vF 1 11 (by decide), vF 65 10 (by decide), vF 1 12 (by decide), vF 65 11 (by decide)]; exact hft
  · rw [vF 1 13 (by decide), vF 65 30 (by decide)]; exact hmk
  · unfold JA at hA ⊢
    rw [vF 65 52 (by decide), vF 65 53 (by decide), vF 1 28 (by decide), vF 1 29 (by decide), vA 44 (by decide), vA 90 (by decide), vA 91 (by decide)]
    refine ⟨⟨hA.1.1, hA.1.2.1, fun w k w0 w1 k0 k1 => ?_⟩, hA.2⟩
    have := hA.1.2.2 w k w0 w1 k0 k1
    rcases (show w = 0 ∨ w = 1 by omega) with rfl | rfl
    · rw [← this]
      exact congrFun (vA 42 (by decide)) k
    · rw [← this]
      exact congrFun (vA 43 (by decide)) k
end CHK
/-! two frames in one -/
section FR2
variable {A A' : List Int} {B B' : List (Int × Int)} {f : Int} {μ m m' : tm_M}
theorem fr_sf (h : tFr (tWs A B) μ m) : tFr (tWf A B f) μ m := h.to (fun _ _ q => Or.inl q)
theorem fr2 (h : tFr (tWf A B f) μ m) (h' : tFr (tWs A' B') m m') : tFr (tWf (A ++ A') (B ++ B') f) μ m' := by
  refine (h.to (W' := tWf (A ++ A') (B ++ B') f) ?_).tr h' ?_
  · rintro a j ((q | q) | q)
    · exact Or.inl (Or.inl (List.mem_append_left _ q))
    · exact Or.inl (Or.inr (List.mem_append_left _ q))
    · exact Or.inr q
  · rintro a j (q | q)
    · exact Or.inl (Or.inl (List.mem_append_right _ q))
    · exact Or.inl (Or.inr (List.mem_append_right _ q))
end FR2
/-- component and model answer alike -/
def OPC (M0 M6 : tM) (τ : Nat) (as : tSt) (μ : tm_M) (mc ms : Nat) : Prop :=
  tC M0 30 mc ms ((2, 1) :: as) μ (fun o m1 => ∃ r, o = .inl (some (τ, r)) ∧ tS m1 ∧ tC M6 30 0 0 ((2, 65) :: as) m1 (fun o2 m2 => o2 = .inl (some (τ, r)) ∧ IV m2))
section OP
variable {W W6 : Int → Int → Prop} {M0 M6 : tM} {as : tSt} {μ m1 : tm_M} {K K6 : Int → tm_M → Prop} {r : Int}
theorem OPC_I (hc : cI W M0 30 ((2, 1) :: as) μ K) (h : ∀ r m1, tFr W μ m1 → K r m1 → tC M6 30 0 0 ((2, 65) :: as) m1 (fun o2 m2 => o2 = .inl (some (0, r)) ∧ IV m2)) : OPC M0 M6 0 as μ 0 0 :=
  hc.mono fun o m q => by
    obtain ⟨r, rfl, f, k⟩ := q
    exact ⟨r, rfl, f.S, h r m f k⟩
theorem OPC_L (hc : cL W M0 30 ((2, 1) :: as) μ K) (h : ∀ r m1, tFr W μ m1 → K r m1 → tC M6 30 0 0 ((2, 65) :: as) m1 (fun o2 m2 => o2 = .inl (some (1, r)) ∧ IV m2)) : OPC M0 M6 1 as μ 0 0 :=
  hc.mono fun o m q => by
    obtain ⟨r, rfl, f, k⟩ := q
    exact ⟨r, rfl, f.S, h r m f k⟩
theorem OP6_I (hc : cI W6 M6 30 ((2, 65) :: as) m1 K6) (h : ∀ r2 m2, tFr W6 m1 m2 → K6 r2 m2 → r2 = r ∧ IV m2) : tC M6 30 0 0 ((2, 65) :: as) m1 (fun o2 m2 => o2 = .inl (some (0, r)) ∧ IV m2) :=
  hc.mono fun o m q => by
    obtain ⟨r2, rfl, f, k⟩ := q
    obtain ⟨rfl, h2⟩ := h r2 m f k
    exact ⟨rfl, h2⟩
theorem OP6_L (hc : cL W6 M6 30 ((2, 65) :: as) m1 K6) (h : ∀ r2 m2, tFr W6 m1 m2 → K6 r2 m2 → r2 = r ∧ IV m2) : tC M6 30 0 0 ((2, 65) :: as) m1 (fun o2 m2 => o2 = .inl (some (1, r)) ∧ IV m2) :=
  hc.mono fun o m q => by
    obtain ⟨r2, rfl, f, k⟩ := q
    obtain ⟨rfl, h2⟩ := h r2 m f k
    exact ⟨rfl, h2⟩
end OP
