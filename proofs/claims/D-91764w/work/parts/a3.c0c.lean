/-! CONTRACTS of the component: who walks -/
section C0C
variable {d : Nat} {μ μ0 ν : tm_M} {W : Int → Int → Prop}
def c_W (μ : tm_M) (w : Int) : Int := tm_v μ 6 w
def c_R (μ : tm_M) (w : Int) : Int := tm_v μ (c_W μ w) 0
/-- the component's ways are the model's -/
def JV (μ ν : tm_M) : Prop := y_V ν ∧ tm_v μ 1 9 = tm_v ν 65 43 ∧ ∀ w, 0 ≤ w → w < tm_v ν 65 43 → (ob μ (c_R μ w) 20 ∧ c_R μ w ≠ c_FA μ) ∧
  (0 < tm_v ν 82 w → (tm_v ν 84 w = 0 → ob μ (c_W μ w) 9) ∧ (tm_v ν 84 w ≠ 0 → ob μ (c_W μ w) 10) ∧ tm_n μ (c_R μ w) = tm_v ν 82 w ∧ ∀ j, 0 ≤ j → j < tm_v ν 82 w → tm_v μ (c_R μ w) j = tm_v ν 83 (24 * w + j)) ∧
  (tm_v ν 82 w = 0 → ob μ (c_W μ w) 11 ∧ tm_n μ (c_R μ w) = 18 ∧ ∀ j, 0 ≤ j → j < 18 → tm_v μ (c_R μ w) j = tm_v ν 83 (24 * w + j))
/-- how a way counts steps -/
def c_d (ν : tm_M) (x dn : Int) : Int := if 0 < tm_v ν 82 x ∧ tm_v ν 84 x ≠ 0 then dn % tm_v ν 82 x else dn
/-- cell a is one who walks: by way x, at place p, dn steps done, in mood md -/
def wkr (μ ν m : tm_M) (a x p dn md : Int) : Prop := tm_v m a 0 = c_W μ x ∧ tm_v m a 1 = c_P μ p ∧ tm_v m a 2 = c_d ν x dn ∧ tm_v m a 3 = md
theorem sk_w {a : Int} (hs : tS μ) (ha : 7 ≤ a ∧ a ≤ 9) : 1 ≤ a ∧ tm_k μ a = 3 := by
  have : a = 7 ∨ a = 8 ∨ a = 9 := by omega
  rcases this with rfl | rfl | rfl
  · exact ⟨by decide, sk_7 hs⟩
  · exact ⟨by decide, sk_8 hs⟩
  · exact ⟨by decide, sk_9 hs⟩
section WAY
variable {a x p dn md : Int}
theorem pX12_told (hs : tS μ) (hJ : JU μ ν) (hV : JV μ ν) (ha : 7 ≤ a ∧ a ≤ 9) (hx : y_v ν x) (h0 : tm_v ν 82 x = 0) (hp : y_p ν p) (hm : 0 ≤ md ∧ md ≤ 2) (h1 : tm_v μ a 1 = c_P μ p) (h3 : tm_v μ a 3 = md) : cI w0 mX12_told d [(2, c_W μ x), (2, a)] μ (fun r _ => r = tm_v ν 83 (24 * x + 6 * md + tm_v ν 70 (3 * p))) := by
  obtain ⟨⟨b1, b2⟩, b3, b4⟩ := hV.2.2 x hx.2.1 hx.2.2
  obtain ⟨c1, c2, c3⟩ := b4 h0
  have hP := hJ.P hp
  have hsg := (hp.1.2.2.1 p hp.2.1 hp.2.2).2.1
  have eR : tm_v μ (c_W μ x) 0 = c_R μ x := rfl
  refine t_of (uX12_told_0 (tFr.rf hs) ?_)
  rw [h1, h3, hP.2.2.1.1, eR, c2, w32_id (x := 6 * md) (by omega) (by omega), w32_id (x := 6 * md + tm_v ν 70 (3 * p)) (by omega) (by omega)]
  refine ⟨c1, sk_w hs ha, hP.1, b1, by omega, ?_⟩
  rw [c3 _ (by omega) (by omega), show 24 * x + (6 * md + tm_v ν 70 (3 * p)) = 24 * x + 6 * md + tm_v ν 70 (3 * p) by omega]
theorem pW_step (hd : 1 ≤ d) (hs : tS μ) (hJ : JU μ ν) (hV : JV μ ν) (ha : 7 ≤ a ∧ a ≤ 9) (hx : y_v ν x) (hp : y_p ν p) (hn : 0 ≤ dn ∧ dn ≤ 1000000) (hm : 0 ≤ md ∧ md ≤ 2) (hw : wkr μ ν μ a x p dn md) : vStep d (c_W μ x) a μ (fun r _ => r = y_stp ν x p dn md) := by
  obtain ⟨⟨b1, b2⟩, b3, b4⟩ := hV.2.2 x hx.2.1 hx.2.2
  obtain ⟨w1, w2, w3, w4⟩ := hw
  have hv := hx.1.2 x hx.2.1 hx.2.2
  have eR : tm_v μ (c_W μ x) 0 = c_R μ x := rfl
  have skw := sk_w hs ha
  unfold vStep
  by_cases c : 0 < tm_v ν 82 x
  · obtain ⟨c1, c2, c3, c4⟩ := b3 c
    by_cases g : tm_v ν 84 x = 0
    · have ho := c1 g
      have ed : c_d ν x dn = dn := by unfold c_d; rw [if_neg (fun q => q.2 g)]
      rw [ed] at w3
      refine ⟨ho.1.1, Or.inl ⟨ho.1.2, t_of (uX10_step_0_9 (tFr.rf hs) ?_)⟩⟩
      rw [eR, w3, c3]
      refine ⟨skw, ho, b1, fun q => ?_, fun q => ⟨by omega, ?_⟩⟩
      · unfold y_stp; rw [if_pos c, if_neg (by omega)]
      · rw [c4 dn hn.1 q]; unfold y_stp; rw [if_pos c, if_pos (Or.inl q), Int.emod_eq_of_lt hn.1 q]
    · have ho := c2 g
      have ed : c_d ν x dn = dn % tm_v ν 82 x := by unfold c_d; rw [if_pos ⟨c, g⟩]
      have m1 := Int.emod_nonneg dn (show tm_v ν 82 x ≠ 0 by omega)
      have m2 := Int.emod_lt_of_pos dn c
      rw [ed] at w3
      refine ⟨ho.1.1, Or.inr (Or.inl ⟨ho.1.2, t_of (uX10_step_0_10 (tFr.rf hs) ?_)⟩)⟩
      rw [eR, w3, c3]
      refine ⟨skw, ho, b1, fun q => by omega, fun q => ⟨by omega, ?_⟩⟩
      rw [c4 _ m1 q]; unfold y_stp; rw [if_pos c, if_pos (Or.inr g)]
  · have h0 : tm_v ν 82 x = 0 := by omega
    obtain ⟨c1, c2, c3⟩ := b4 h0
    refine ⟨c1.1.1, Or.inr (Or.inr ⟨c1.1.2, t_of (uX12_step_0 hd (tFr.rf hs) ⟨c1, ?_⟩)⟩)⟩
    refine tC.I (pX12_told hs hJ hV ha hx h0 hp hm w2 w4) (fun r m fm hr => ?_)
    have hsg := (hp.1.2.2.1 p hp.2.1 hp.2.2).2.1
    have q := hv.2.2.2 h0 (6 * md + tm_v ν 70 (3 * p)) (by omega) (by omega)
    rw [show 24 * x + (6 * md + tm_v ν 70 (3 * p)) = 24 * x + 6 * md + tm_v ν 70 (3 * p) by omega] at q
    rw [hr, Int.tmod_eq_emod_of_nonneg (by omega)]
    unfold y_stp
    rw [if_neg c]
theorem pX9_goesOn (hs : tS μ) (ha : 7 ≤ a ∧ a ≤ 9) (hn : 0 ≤ tm_v μ a 2 ∧ tm_v μ a 2 ≤ 1000000) {y : Int} : cV (tWs [a] []) mX9_goesOn d [(2, y), (2, a)] μ (fun m => m = tm_w μ a 2 (tm_v μ a 2 + 1)) := by
  refine t_of (uX9_goesOn_0 ha (tFr.rf hs) ⟨sk_w hs ha, fun m e => ?_⟩)
  rw [e, w32_id (by omega) (by omega)]
theorem pW_goes (hd : 1 ≤ d) (hs : tS μ) (hJ : JU μ ν) (hV : JV μ ν) (ha : 7 ≤ a ∧ a ≤ 9) (hx : y_v ν x) (hp : y_p ν p) (hn : 0 ≤ dn ∧ dn ≤ 1000000) (hm : 0 ≤ md ∧ md ≤ 2) (hw : wkr μ ν μ a x p dn md) : vGoes d (c_W μ x) a μ (fun m => wkr μ ν m a x p (dn + 1) (y_md ν x p md)) := by
  obtain ⟨⟨b1, b2⟩, b3, b4⟩ := hV.2.2 x hx.2.1 hx.2.2
  obtain ⟨w1, w2, w3, w4⟩ := hw
  have hv := hx.1.2 x hx.2.1 hx.2.2
  have eR : tm_v μ (c_W μ x) 0 = c_R μ x := rfl
  have skw := sk_w hs ha
  unfold vGoes
  by_cases c : 0 < tm_v ν 82 x
  · obtain ⟨c1, c2, c3, c4⟩ := b3 c
    have emd : y_md ν x p md = md := by unfold y_md; rw [if_pos c]
    rw [emd]
    by_cases g : tm_v ν 84 x = 0
    · have ho := c1 g
      have ed : ∀ q, c_d ν x q = q := fun q => by unfold c_d; rw [if_neg (fun q => q.2 g)]
      rw [ed] at w3
      refine ⟨ho.1.1, Or.inl ⟨ho.1.2, tC.V (pX9_goesOn hs ha (by omega)) (fun m fm em => ⟨?_, ?_, ?_, ?_⟩)⟩⟩
      · rw [em]; simp [tm_vw]; exact w1
      · rw [em]; simp [tm_vw]; exact w2
      · rw [em, ed]; simp [tm_vw]; exact w3
      · rw [em]; simp [tm_vw]; exact w4
    · have ho := c2 g
      have ed : ∀ q, c_d ν x q = q % tm_v ν 82 x := fun q => by unfold c_d; rw [if_pos ⟨c, g⟩]
      have m1 := Int.emod_nonneg dn (show tm_v ν 82 x ≠ 0 by omega)
      have m2 := Int.emod_lt_of_pos dn c
      have l24 := hv.1
      rw [ed] at w3
      have mm : (dn + 1) % tm_v ν 82 x = if dn % tm_v ν 82 x + 1 = tm_v ν 82 x then 0 else dn % tm_v ν 82 x + 1 := by
        rw [Int.add_emod]
        by_cases e1 : tm_v ν 82 x = 1
        · rw [e1]; simp
        · rw [Int.emod_eq_of_lt (a := 1) (by omega) (by omega)]
          split
          · rename_i q; rw [q, Int.emod_self]
          · exact Int.emod_eq_of_lt (by omega) (by omega)
      refine ⟨ho.1.1, Or.inr (Or.inl ⟨ho.1.2, t_of (uX11_goesOn_0 hd ha (tFr.rf hs) ⟨ho, tC.V (pX9_goesOn hs ha (by omega)) (fun m fm em => ⟨skw, b1, ?_⟩)⟩)⟩)⟩
      have en : tm_n m (c_R μ x) = tm_v ν 82 x := by rw [fm.n]; exact c3
      have v2 : tm_v m a 2 = dn % tm_v ν 82 x + 1 := by rw [em]; simp [tm_vw]; exact w3
      rw [eR, en, v2]
      refine ⟨fun q => ⟨?_, ?_, ?_, ?_⟩, fun q m2 e2 => ⟨?_, ?_, ?_, ?_⟩⟩
      · rw [em]; simp [tm_vw]; exact w1
      · rw [em]; simp [tm_vw]; exact w2
      · rw [v2, ed, mm, if_neg q]
      · rw [em]; simp [tm_vw]; exact w4
      · rw [e2, em]; simp [tm_vw]; exact w1
      · rw [e2, em]; simp [tm_vw]; exact w2
      · rw [ed, mm, if_pos q, e2]; simp [tm_vw]
      · rw [e2, em]; simp [tm_vw]; exact w4
  · have h0 : tm_v ν 82 x = 0 := by omega
    obtain ⟨c1, c2, c3⟩ := b4 h0
    have ed : ∀ q, c_d ν x q = q := fun q => by unfold c_d; rw [if_neg (fun q => c q.1)]
    rw [ed] at w3
    refine ⟨c1.1.1, Or.inr (Or.inr ⟨c1.1.2, t_of (uX12_goesOn_0 hd ha (tFr.rf hs) ⟨c1, tC.V (pX9_goesOn hs ha (by omega)) (fun m fm em => ?_)⟩)⟩)⟩
    have hT : y_TC (c_FA μ) (tWs [a] []) := tW1_TC ha
    have J' := JU_F hJ fm hT
    have eW : c_W m x = c_W μ x := fm.v (tW1_no (by omega))
    have eRm : c_R m x = c_R μ x := by unfold c_R; rw [eW]; exact fm.v (tW1_ob ha c1)
    -- told asks for this way alone
    have tol : cI w0 mX12_told (d - 1) [(2, c_W μ x), (2, a)] m (fun r _ => r = tm_v ν 83 (24 * x + 6 * md + tm_v ν 70 (3 * p))) := by
      have hP := J'.P hp
      have hsg := (hp.1.2.2.1 p hp.2.1 hp.2.2).2.1
      have k1 : tm_v m a 1 = c_P m p := by rw [c_P_F hJ fm hT, em]; simp [tm_vw]; exact w2
      have k3 : tm_v m a 3 = md := by rw [em]; simp [tm_vw]; exact w4
      have eR' : tm_v m (c_W μ x) 0 = c_R μ x := by rw [← eRm]; unfold c_R; rw [eW]
      refine t_of (uX12_told_0 (tFr.rf fm.S) ?_)
      rw [k1, k3, hP.2.2.1.1, eR', fm.n, c2, w32_id (x := 6 * md) (by omega) (by omega), w32_id (x := 6 * md + tm_v ν 70 (3 * p)) (by omega) (by omega)]
      refine ⟨ob_F fm c1, sk_w fm.S ha, hP.1, ob_F fm b1, by omega, ?_⟩
      rw [fm.v (tW1_ob ha b1), c3 _ (by omega) (by omega), show 24 * x + (6 * md + tm_v ν 70 (3 * p)) = 24 * x + 6 * md + tm_v ν 70 (3 * p) by omega]
    refine tC.I tol (fun r m2 fm2 hr => ⟨skw, fun m3 e3 => ?_⟩)
    have em2 := fm2.same
    subst em2
    have hsg := (hp.1.2.2.1 p hp.2.1 hp.2.2).2.1
    have q := hv.2.2.2 h0 (6 * md + tm_v ν 70 (3 * p)) (by omega) (by omega)
    rw [show 24 * x + (6 * md + tm_v ν 70 (3 * p)) = 24 * x + 6 * md + tm_v ν 70 (3 * p) by omega] at q
    rw [hr, Int.tdiv_eq_ediv_of_nonneg (by omega), w32_id (by omega) (by omega)] at e3
    refine ⟨?_, ?_, ?_, ?_⟩
    · rw [e3, em]; simp [tm_vw]; exact w1
    · rw [e3, em]; simp [tm_vw]; exact w2
    · rw [e3, em, ed]; simp [tm_vw]; exact w3
    · rw [e3]; simp [tm_vw]; unfold y_md; rw [if_neg c]
theorem pX3_next (hd : 2 ≤ d) (hs : tS μ) (hJ : JU μ ν) (hV : JV μ ν) (ha : 7 ≤ a ∧ a ≤ 9) (hx : y_v ν x) (hp : y_p ν p) (hn : 0 ≤ dn ∧ dn ≤ 1000000) (hm : 0 ≤ md ∧ md ≤ 2) (hw : wkr μ ν μ a x p dn md) : cR (tWs [a] []) mX3_next d [(2, a)] μ (fun r m => r = c_P μ (y_go ν p (y_stp ν x p dn md)) ∧ wkr μ ν m a x p (dn + 1) (y_md ν x p md)) := by
  have hP := hJ.P hp
  have e0 := hw.1
  have e1 := hw.2.1
  refine t_of (uX3_next_0 (ν := ν) hd ha (tFr.rf hs) ⟨sk_w hs ha, ?_⟩)
  rw [e0, e1]
  have st := pW_step (d := d - 1) (by omega) hs hJ hV ha hx hp hn hm hw
  have go := pW_goes (d := d - 1) (by omega) hs hJ hV ha hx hp hn hm hw
  have mono : ∀ (K K' : Int → tm_M → Prop), vStep (d - 1) (c_W μ x) a μ K → (∀ r, K r μ → K' r μ) → vStep (d - 1) (c_W μ x) a μ K' := by
    rintro K K' ⟨h1, h⟩ hk
    refine ⟨h1, ?_⟩
    rcases h with ⟨k, c⟩ | ⟨k, c⟩ | ⟨k, c⟩
    · exact Or.inl ⟨k, tC.I c (fun r m fm q => by have em := fm.same; subst em; exact hk r q)⟩
    · exact Or.inr (Or.inl ⟨k, tC.I c (fun r m fm q => by have em := fm.same; subst em; exact hk r q)⟩)
    · exact Or.inr (Or.inr ⟨k, tC.I c (fun r m fm q => by have em := fm.same; subst em; exact hk r q)⟩)
  refine mono _ _ st (fun r hr => ⟨hP.1, ⟨hJ, p, hp, rfl⟩, fun y ey => ?_⟩)
  rw [hP.2.1, hr] at ey
  rw [e0, ey]
  obtain ⟨h1, h⟩ := go
  refine ⟨h1, ?_⟩
  rcases h with ⟨k, c⟩ | ⟨k, c⟩ | ⟨k, c⟩
  · exact Or.inl ⟨k, tC.V c (fun m fm q => ⟨rfl, q⟩)⟩
  · exact Or.inr (Or.inl ⟨k, tC.V c (fun m fm q => ⟨rfl, q⟩)⟩)
  · exact Or.inr (Or.inr ⟨k, tC.V c (fun m fm q => ⟨rfl, q⟩)⟩)
theorem pX3_begin {y z : Int} (hs : tS μ) (ha : 7 ≤ a ∧ a ≤ 9) : cV (tWs [a] []) mX3_begin d [(2, a), (2, y), (2, z)] μ (fun m => m = tm_w (tm_w (tm_w (tm_w μ a 0 y) a 1 z) a 2 0) a 3 0) :=
  t_of (uX3_begin_0 ha (tFr.rf hs) ⟨sk_w hs ha, fun m1 e1 m2 e2 m3 e3 m4 e4 => by rw [e4, e3, e2, e1]⟩)
end WAY
end C0C
