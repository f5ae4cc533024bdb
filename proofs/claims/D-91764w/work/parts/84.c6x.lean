/-! CONTRACTS of the model: the least worth of the corners, the greatest of the chances -/
section C6X
variable {d : Nat} {μ μ0 : tm_M} {W : Int → Int → Prop}
theorem rawc_z (hR : 1 ≤ tm_v μ 65 72 ∧ tm_v μ 65 72 ≤ 3) : (tm_v μ 65 72 ≤ 2 → (rawc μ).2.2 = 0) ∧ (tm_v μ 65 72 ≤ 1 → (rawc μ).2.1 = 0) := by
  unfold rawc
  by_cases e1 : tm_v μ 65 72 = 1
  · rw [if_pos e1]; exact ⟨fun _ => rfl, fun _ => rfl⟩
  · rw [if_neg e1]
    by_cases e2 : tm_v μ 65 72 = 2
    · rw [if_pos e2]; exact ⟨fun _ => rfl, fun h => by omega⟩
    · rw [if_neg e2]; exact ⟨fun h => by omega, fun h => by omega⟩
theorem ng_z2 {c : V3} (h : c.2.2 = 0) : (ng c).2.2 = 0 := by unfold ng; split <;> simp [h]
theorem ng_z1 {c : V3} (h : c.2.1 = 0) : (ng c).2.1 = 0 := by unfold ng; split <;> simp [h]
theorem ng_sm {c : V3} : sm3 (ng c) = ((sm3 c).natAbs : Int) := by
  unfold ng
  split
  · simp only [sm3] at *; omega
  · omega
/-- a row of chances on a crossing makes it a corner -/
theorem acc_of {R : Int} {r c : V3} (hr : dl R r) (hc : c ≠ (0, 0, 0)) (he : eqv r c) : sm3 c ≠ 0 ∧ nn3 (ng c) := by
  have h0 : sm3 c ≠ 0 := by
    intro h
    apply hc
    obtain ⟨h1, h2, h3⟩ := he
    rw [h] at h1 h2 h3
    have z := fun x (hx : x * sm3 r = 0) => (Int.mul_eq_zero.mp hx).resolve_right (by have := hr.2.1; omega)
    exact Prod.ext (z c.1 (by omega)) (Prod.ext (z c.2.1 (by omega)) (z c.2.2 (by omega)))
  exact ⟨h0, (eqv_nn (eqv_ng he) hr (ng_pos h0)).1⟩
theorem eqv_tr {p q r : V3} (hq : 0 < sm3 q) (h1 : eqv p q) (h2 : eqv q r) : eqv p r := by
  have k : ∀ a b c : Int, a * sm3 q = b * sm3 p → b * sm3 r = c * sm3 q → a * sm3 r = c * sm3 p := by
    intro a b c e1 e2
    have : sm3 q * (a * sm3 r) = sm3 q * (c * sm3 p) := by
      have a1 : sm3 q * (a * sm3 r) = (a * sm3 q) * sm3 r := by grind
      have a2 : sm3 q * (c * sm3 p) = (c * sm3 q) * sm3 p := by grind
      rw [a1, a2, e1, ← e2]; grind
    exact Int.eq_of_mul_eq_mul_left (by omega) this
  exact ⟨k _ _ _ h1.1 h2.1, k _ _ _ h1.2.1 h2.2.1, k _ _ _ h1.2.2 h2.2.2⟩
/-- what isCorner left there -/
theorem cor_ok {c : V3} {m : tm_M} {R : Int} (hz : (R ≤ 2 → c.2.2 = 0) ∧ (R ≤ 1 → c.2.1 = 0)) (h : o_cor c 1 m) : dl R (cor m) ∧ eqv (cor m) (ng c) ∧ sm3 (cor m) = tm_v m 65 76 ∧ ∃ g, 0 < g ∧ g * sm3 (cor m) = ((sm3 c).natAbs : Int) ∧ ∀ k, 0 < k → k ∣ c.1 → k ∣ c.2.1 → k ∣ c.2.2 → k ≤ g := by
  obtain ⟨_, h1, h2⟩ := h
  obtain ⟨a1, a2⟩ := h1.mp rfl
  obtain ⟨b1, g, g0, b2, b3⟩ := h2 rfl
  have hs := ng_pos a1
  have es : sm3 (ng c) = g * sm3 (cor m) := by rw [b2]; simp only [sm3]; grind
  have pos : ∀ z : Int, 0 ≤ g * z → 0 ≤ z := fun z h => by
    by_cases q : 0 ≤ z
    · exact q
    · have := Int.mul_neg_of_pos_of_neg g0 (show z < 0 by omega); omega
  have zer : ∀ z : Int, g * z = 0 → z = 0 := fun z h => (Int.mul_eq_zero.mp h).resolve_left (by omega)
  have hp : 0 < sm3 (cor m) := by
    have : 0 ≤ sm3 (cor m) := pos _ (by omega)
    have : sm3 (cor m) ≠ 0 := fun h => by rw [es, h] at hs; simp at hs
    omega
  refine ⟨⟨?_, hp, fun h => ?_, fun h => ?_⟩, ?_, b1, g, g0, by rw [← es, ng_sm], b3⟩
  · rw [b2] at a2
    exact ⟨pos _ a2.1, pos _ a2.2.1, pos _ a2.2.2⟩
  · have := ng_z2 (hz.1 h)
    rw [b2] at this
    exact zer _ this
  · have := ng_z1 (hz.2 h)
    rw [b2] at this
    exact zer _ this
  · unfold eqv
    rw [es, b2]
    refine ⟨?_, ?_, ?_⟩ <;> dsimp only <;> grind
/-- rows of chances at one crossing are worth as much -/
theorem mx_eqv {C : List V3} {r p : V3} {u v : Int} (he : eqv r p) (hr : 0 < sm3 r) (hp : 0 < sm3 p) (hu : isMx C r u) (hv : isMx C p v) : u * sm3 p = v * sm3 r := by
  obtain ⟨c, hc, e⟩ := hu.2
  rw [← e] at hu ⊢
  have := isMx_uq (eqv_mx he hr hp hu) hv
  rw [← this, eqv_dt he]
def att (m : tm_M) (vt vb : Int) : Prop := ∃ p v, dl (tm_v m 65 72) p ∧ isMx (g_C m) p v ∧ vt * sm3 p = v * vb
def VI0 (m : tm_M) : Prop := tm_v m 65 78 = 0 ∨ ((0 < tm_v m 65 78 ∧ tm_v m 65 78 ≤ 80000) ∧ (0 ≤ tm_v m 65 77 ∧ tm_v m 65 77 ≤ 100 * tm_v m 65 78) ∧ att m (tm_v m 65 77) (tm_v m 65 78))
def cvd (m : tm_M) (r : V3) (u : Int) : Prop := 0 < tm_v m 65 78 ∧ tm_v m 65 77 * sm3 r ≤ u * tm_v m 65 78
theorem att_F {vt vb : Int} (hs : tFr W μ0 μ) (hT : g_T W) : att μ vt vb ↔ att μ0 vt vb := by unfold att; rw [g_C_F hs hT, hs.v hT.2.1]
theorem pX6_valued (hd : 3 ≤ d) (hs : tS μ) (hG : y_G μ) (hb : eb μ) (hsm : ((sm3 (rawc μ)).natAbs : Int) ≤ 80000) (hV : VI0 μ) :
    cV wX6_valued mX6_valued d [(2, 65)] μ (fun m => VI0 m ∧ (∀ r u, 0 < sm3 r → cvd μ r u → cvd m r u) ∧ (∀ r u, dl (tm_v μ 65 72) r → rawc μ ≠ (0, 0, 0) → eqv r (rawc μ) → isMx (g_C μ) r u → cvd m r u)) := by
  have hT : g_T wX6_valued := ⟨fun j => tWs_no _ rfl, tWs_noF rfl, tWs_noF rfl⟩
  refine t_of (uX6_valued_0 (by omega) (tFr.rf hs) ?_)
  refine tC.I (pX6_isCorner (by omega) hs hG.1 hb) ?_
  intro r2 m1 f1 ho
  have v77 : tm_v m1 65 77 = tm_v μ 65 77 := f1.v (tWs_noF rfl)
  have v78 : tm_v m1 65 78 = tm_v μ 65 78 := f1.v (tWs_noF rfl)
  have F1 : tFr wX6_valued μ m1 := f1.to (tWs_sub rfl)
  have VI1 : VI0 m1 := by
    unfold VI0 at hV ⊢
    rw [v77, v78, att_F F1 hT]
    exact hV
  have mono1 : ∀ r u, cvd μ r u → cvd m1 r u := by intro r u h; unfold cvd at *; rw [v77, v78]; exact h
  refine ⟨fun c2 => ?_, fun c2 => ?_⟩
  · have e1 : r2 = 1 := by have := ho.1; omega
    subst e1
    obtain ⟨p1, p2, p3, g, g0, p4, _⟩ := cor_ok (rawc_z hG.1) ho
    have hle : sm3 (cor m1) ≤ 80000 := by
      have : 1 * sm3 (cor m1) ≤ g * sm3 (cor m1) := Int.mul_le_mul_of_nonneg_right (by omega) (by have := p1.2.1; omega)
      omega
    refine tC.L (pX6_mostOf (by omega) f1.S ((y_G_F F1 hT).mpr hG) ⟨p1.1, by omega⟩) ?_
    rintro v m2 f2 ⟨hv, hv0, hv1⟩
    have e2 := f2.same
    subst e2
    rw [g_C_F F1 hT] at hv
    have hp0 := p1.2.1
    rw [← p3, v77, v78]
    have cover : ∀ (V S : Int), (∃ q, 0 < q ∧ v = q * V ∧ sm3 (cor m2) = q * S) → ∀ r u, dl (tm_v μ 65 72) r → rawc μ ≠ (0, 0, 0) → eqv r (rawc μ) → isMx (g_C μ) r u → V * sm3 r ≤ u * S := by
      rintro V S ⟨q, q0, e1, e2⟩ r u hr hc he hu
      have ha := acc_of hr hc he
      have h1 := eqv_tr (ng_pos ha.1) (eqv_ng he) (eqv_sy p2)
      have h2 := mx_eqv h1 hr.2.1 hp0 hu hv
      have h3 : q * (V * sm3 r) = q * (u * S) := by
        have a1 : q * (V * sm3 r) = (q * V) * sm3 r := by grind
        have a2 : q * (u * S) = u * (q * S) := by grind
        rw [a1, a2, ← e1, ← e2]; omega
      exact Int.le_of_eq (Int.eq_of_mul_eq_mul_left (by omega) h3)
    -- a new least one
    have upd : (∀ r u, 0 < sm3 r → cvd μ r u → v * sm3 r ≤ u * sm3 (cor m2)) → (-9223372036854775808 < v ∧ v ≤ 9223372036854775807 ∧ -9223372036854775808 < sm3 (cor m2) ∧ sm3 (cor m2) ≤ 9223372036854775807) ∧ ((∀ x13, x13 = (Int.gcd v (sm3 (cor m2)) : Int) → (x13 ≠ 0) ∧ ((∀ μ15, μ15 = tm_w m2 65 77 (w64 (v.tdiv x13)) → (x13 ≠ 0) ∧ ((∀ μ17, μ17 = tm_w μ15 65 78 (w64 ((tm_v μ15 65 76).tdiv x13)) → VI0 μ17 ∧ (∀ r u, 0 < sm3 r → cvd μ r u → cvd μ17 r u) ∧ (∀ r u, dl (tm_v μ 65 72) r → rawc μ ≠ (0, 0, 0) → eqv r (rawc μ) → isMx (g_C μ) r u → cvd μ17 r u))))))) := by
      intro hmono
      refine ⟨by omega, ?_⟩
      intro q eq
      have dv : q ∣ v := by rw [eq]; exact Int.gcd_dvd_left _ _
      have ds : q ∣ sm3 (cor m2) := by rw [eq]; exact Int.gcd_dvd_right _ _
      have q0 : 0 < q := by
        have : q ≠ 0 := fun h => by rw [h] at ds; have := Int.zero_dvd.mp ds; omega
        have : 0 ≤ q := by rw [eq]; omega
        omega
      refine ⟨by omega, fun n1 e1 => ⟨by omega, fun n2 e2 => ?_⟩⟩
      obtain ⟨V, eV⟩ := dv
      obtain ⟨S, eS⟩ := ds
      have pos : ∀ z : Int, 0 ≤ q * z → 0 ≤ z := fun z h => by
        by_cases k : 0 ≤ z
        · exact k
        · have := Int.mul_neg_of_pos_of_neg q0 (show z < 0 by omega); omega
      have hS0 : 0 < S := by
        have : 0 ≤ S := pos _ (by omega)
        have : S ≠ 0 := fun h => by rw [eS, h] at hp0; simp at hp0
        omega
      have hV0 : 0 ≤ V := pos _ (by omega)
      have hSl : S ≤ sm3 (cor m2) := by
        have : 1 * S ≤ q * S := Int.mul_le_mul_of_nonneg_right (by omega) (by omega)
        omega
      have hVS : V ≤ 100 * S := by
        have : q * V ≤ q * (100 * S) := by
          have a1 : q * (100 * S) = 100 * (q * S) := by grind
          rw [a1, ← eV, ← eS]; exact hv1
        exact Int.le_of_mul_le_mul_left this q0
      have t1 : v.tdiv q = V := by rw [eV]; exact Int.mul_tdiv_cancel_left _ (by omega)
      have t2 : (sm3 (cor m2)).tdiv q = S := by rw [eS]; exact Int.mul_tdiv_cancel_left _ (by omega)
      have v76 : tm_v n1 65 76 = sm3 (cor m2) := by rw [e1, tm_vw, if_neg (by omega)]; exact p3.symm
      rw [t1, w64_id (x := V) (by omega) (by omega)] at e1
      rw [v76, t2, w64_id (x := S) (by omega) (by omega)] at e2
      have g1 : tFr wX6_valued μ n1 := by rw [e1]; exact F1.w (tWs_inF rfl) (tS_wj F1.S _ (by decide))
      have g2 : tFr wX6_valued μ n2 := by rw [e2]; exact g1.w (tWs_inF rfl) (tS_wj g1.S _ (by decide))
      have w77 : tm_v n2 65 77 = V := by rw [e2, e1]; simp [tm_vw]
      have w78 : tm_v n2 65 78 = S := by rw [e2]; simp [tm_vw]
      refine ⟨?_, fun r u hr h => ?_, fun r u hr hc he hu => ?_⟩
      · unfold VI0
        rw [w77, w78]
        refine Or.inr ⟨⟨hS0, by omega⟩, ⟨hV0, hVS⟩, ?_⟩
        rw [att_F g2 hT]
        refine ⟨cor m2, v, p1, hv, ?_⟩
        rw [eS]
        have : V * (q * S) = q * V * S := by grind
        rw [this, ← eV]
      · have := hmono r u hr h
        unfold cvd
        rw [w77, w78]
        refine ⟨hS0, ?_⟩
        have k : q * (V * sm3 r) ≤ q * (u * S) := by
          have a1 : q * (V * sm3 r) = (q * V) * sm3 r := by grind
          have a2 : q * (u * S) = u * (q * S) := by grind
          rw [a1, a2, ← eV, ← eS]; exact this
        exact Int.le_of_mul_le_mul_left k q0
      · unfold cvd
        rw [w77, w78]
        exact ⟨hS0, cover V S ⟨q, q0, eV, eS⟩ r u hr hc he hu⟩
    refine ⟨fun c3 => ?_, fun c3 => ?_⟩
    · refine upd (fun r u hr h => ?_)
      unfold cvd at h; omega
    · have hV' : (0 < tm_v μ 65 78 ∧ tm_v μ 65 78 ≤ 80000) ∧ (0 ≤ tm_v μ 65 77 ∧ tm_v μ 65 77 ≤ 100 * tm_v μ 65 78) ∧ att μ (tm_v μ 65 77) (tm_v μ 65 78) := by
        rcases hV with h | h
        · omega
        · exact h
      have b1 := mul_bd (x := v) (y := tm_v μ 65 78) (a := 8000000) (b := 80000) (by omega) (by omega)
      have b2 := mul_bd (x := tm_v μ 65 77) (y := sm3 (cor m2)) (a := 8000000) (b := 80000) (by omega) (by omega)
      rw [w64_id (x := v * tm_v μ 65 78) (by omega) (by omega), w64_id (x := tm_v μ 65 77 * sm3 (cor m2)) (by omega) (by omega)]
      refine ⟨fun c4 => ?_, fun c4 => ?_⟩
      · refine upd (fun r u hr h => ?_)
        unfold cvd at h
        exact Int.le_of_lt (rt_lt hp0 hV'.1.1 hr c4 h.2)
      · refine ⟨VI1, fun r u hr h => mono1 r u h, fun r u hr hc he hu => ?_⟩
        have h1 := cover v (sm3 (cor m2)) ⟨1, by decide, by omega, by omega⟩ r u hr hc he hu
        unfold cvd
        rw [v77, v78]
        exact ⟨c3, rt_le hV'.1.1 hp0 hr.2.1 c4 h1⟩
  · refine ⟨VI1, fun r u _ h => mono1 r u h, fun r u hr hc he hu => ?_⟩
    have := ho.2.1.mpr (acc_of hr hc he)
    omega
/-! the chances -/
def top3 (m : tm_M) : V3 := (tm_v m 93 0, tm_v m 93 1, tm_v m 93 2)
def CI0 (m : tm_M) : Prop := tm_v m 65 54 = 0 ∨ (tm_v m 65 54 = tm_v m 65 72 ∧ (0 < tm_v m 65 59 ∧ tm_v m 65 59 ≤ 1600000000) ∧ tm_v m 65 59 = sm3 (top3 m) ∧ dl (tm_v m 65 72) (top3 m) ∧ ∃ v, isMx (g_C m) (top3 m) v ∧ v * tm_v m 65 78 ≤ tm_v m 65 77 * sm3 (top3 m))
def lx (p r : V3) : Prop := r.1 * sm3 p < p.1 * sm3 r ∨ (r.1 * sm3 p = p.1 * sm3 r ∧ r.2.1 * sm3 p ≤ p.2.1 * sm3 r)
def cvc (m : tm_M) (r : V3) : Prop := tm_v m 65 54 ≠ 0 ∧ lx (top3 m) r
theorem lx_tr {p q r : V3} (hp : 0 < sm3 p) (hq : 0 < sm3 q) (hr : 0 < sm3 r) (h : lx p q) (h' : lx q r) : lx p r := by
  have t := le4_tr (v := 0) (v' := 0) (v'' := 0) hp hq hr (show le4 0 p.1 p.2.1 (sm3 p) 0 q.1 q.2.1 (sm3 q) from Or.inr ⟨by simp, h⟩) (show le4 0 q.1 q.2.1 (sm3 q) 0 r.1 r.2.1 (sm3 r) from Or.inr ⟨by simp, h'⟩)
  unfold le4 at t
  rcases t with t | t
  · simp at t
  · exact t.2
theorem lx_eqv {p r : V3} (h : eqv r p) : lx p r := Or.inr ⟨h.1, Int.le_of_eq h.2.1⟩
theorem pX6_chosen (hd : 3 ≤ d) (hs : tS μ) (hG : y_G μ) (hb : eb μ) (hk : ∃ k, 0 < k ∧ k ∣ (rawc μ).1 ∧ k ∣ (rawc μ).2.1 ∧ k ∣ (rawc μ).2.2 ∧ ((sm3 (rawc μ)).natAbs : Int) ≤ k * 1600000000)
    (hvb : 0 < tm_v μ 65 78 ∧ tm_v μ 65 78 ≤ 80000) (hvt : 0 ≤ tm_v μ 65 77 ∧ tm_v μ 65 77 ≤ 100 * tm_v μ 65 78) (hC : CI0 μ) :
    cV wX6_chosen mX6_chosen d [(2, 65)] μ (fun m => CI0 m ∧ (∀ r, 0 < sm3 r → cvc μ r → cvc m r) ∧ (∀ r u, dl (tm_v μ 65 72) r → rawc μ ≠ (0, 0, 0) → eqv r (rawc μ) → isMx (g_C μ) r u → u * tm_v μ 65 78 ≤ tm_v μ 65 77 * sm3 r → cvc m r)) := by
  have hT : g_T wX6_chosen := ⟨fun j => tWs_no _ rfl, tWs_noF rfl, tWs_noF rfl⟩
  refine t_of (uX6_chosen_0 (by omega) (tFr.rf hs) ?_)
  refine tC.I (pX6_isCorner (by omega) hs hG.1 hb) ?_
  intro r2 m1 f1 ho
  have F1 : tFr wX6_chosen μ m1 := f1.to (tWs_sub rfl)
  have v54 : tm_v m1 65 54 = tm_v μ 65 54 := f1.v (tWs_noF rfl)
  have v59 : tm_v m1 65 59 = tm_v μ 65 59 := f1.v (tWs_noF rfl)
  have v72 : tm_v m1 65 72 = tm_v μ 65 72 := f1.v (tWs_noF rfl)
  have v77 : tm_v m1 65 77 = tm_v μ 65 77 := f1.v (tWs_noF rfl)
  have v78 : tm_v m1 65 78 = tm_v μ 65 78 := f1.v (tWs_noF rfl)
  have v93 : ∀ j, tm_v m1 93 j = tm_v μ 93 j := fun j => f1.v (tWs_no _ rfl)
  have etop : top3 m1 = top3 μ := by unfold top3; rw [v93, v93, v93]
  have CI1 : CI0 m1 := by
    unfold CI0 at hC ⊢
    rw [v54, v59, v72, v77, v78, etop, g_C_F F1 hT]
    exact hC
  have mono1 : ∀ r, cvc μ r → cvc m1 r := by intro r h; unfold cvc at *; rw [v54, etop]; exact h
  refine ⟨fun c2 => ?_, fun c2 => ?_⟩
  · refine ⟨CI1, fun r _ h => mono1 r h, fun r u hr hc he hu hl => ?_⟩
    have := ho.2.1.mpr (acc_of hr hc he)
    omega
  · have e1 : r2 = 1 := by have := ho.1; omega
    subst e1
    obtain ⟨p1, p2, p3, g, g0, p4, p5⟩ := cor_ok (rawc_z hG.1) ho
    have hp0 := p1.2.1
    have hle : sm3 (cor m1) ≤ 1600000000 := by
      obtain ⟨k, k0, k1, k2, k3, k4⟩ := hk
      have h1 := p5 k k0 k1 k2 k3
      have h2 : k * sm3 (cor m1) ≤ g * sm3 (cor m1) := Int.mul_le_mul_of_nonneg_right h1 (by omega)
      exact Int.le_of_mul_le_mul_left (show k * sm3 (cor m1) ≤ k * 1600000000 by omega) k0
    refine tC.L (pX6_mostOf (by omega) f1.S ((y_G_F F1 hT).mpr hG) ⟨p1.1, by omega⟩) ?_
    rintro v m2 f2 ⟨hv, hv0, hv1⟩
    have e2 := f2.same
    subst e2
    rw [g_C_F F1 hT] at hv
    have b1 := mul_bd (x := v) (y := tm_v μ 65 78) (a := 160000000000) (b := 80000) (by omega) (by omega)
    have b2 := mul_bd (x := tm_v μ 65 77) (y := sm3 (cor m2)) (a := 8000000) (b := 1600000000) (by omega) (by omega)
    have c0 : (tm_v m2 102 0) = (cor m2).1 := rfl
    have c1 : (tm_v m2 102 1) = (cor m2).2.1 := rfl
    have t0 : (tm_v m2 93 0) = (top3 m2).1 := rfl
    have t1 : (tm_v m2 93 1) = (top3 m2).2.1 := rfl
    rw [← p3, w64_id (x := v * tm_v μ 65 78) (by omega) (by omega), w64_id (x := tm_v μ 65 77 * sm3 (cor m2)) (by omega) (by omega)]
    have at_p : ∀ r u, dl (tm_v μ 65 72) r → rawc μ ≠ (0, 0, 0) → eqv r (rawc μ) → isMx (g_C μ) r u → eqv r (cor m2) ∧ u * sm3 (cor m2) = v * sm3 r := by
      intro r u hr hc he hu
      have ha := acc_of hr hc he
      have h1 := eqv_tr (ng_pos ha.1) (eqv_ng he) (eqv_sy p2)
      exact ⟨h1, mx_eqv h1 hr.2.1 hp0 hu hv⟩
    -- a new greatest one
    have upd : v * tm_v μ 65 78 ≤ tm_v μ 65 77 * sm3 (cor m2) → (∀ r, 0 < sm3 r → cvc μ r → lx (cor m2) r) → ∀ n1, n1 = tm_w m2 65 54 (tm_v μ 65 72) → ∀ n2, n2 = tm_w n1 65 59 (tm_v n1 65 76) → hV wX6_chosen μ mX6_chosen d (fun m => CI0 m ∧ (∀ r, 0 < sm3 r → cvc μ r → cvc m r) ∧ (∀ r u, dl (tm_v μ 65 72) r → rawc μ ≠ (0, 0, 0) → eqv r (rawc μ) → isMx (g_C μ) r u → u * tm_v μ 65 78 ≤ tm_v μ 65 77 * sm3 r → cvc m r)) 144 [(0, 2, 65), (2, 0, 0)] [] n2 := by
      intro hval hmono n1 e1 n2 e2
      have g1 : tFr wX6_chosen μ n1 := by rw [e1]; exact F1.w (tWs_inF rfl) (tS_wj F1.S _ (by decide))
      have g2 : tFr wX6_chosen μ n2 := by rw [e2]; exact g1.w (tWs_inF rfl) (tS_wj g1.S _ (by decide))
      have w54 : tm_v n2 65 54 = tm_v μ 65 72 := by rw [e2, e1]; simp [tm_vw]
      have w59 : tm_v n2 65 59 = sm3 (cor m2) := by rw [e2, e1]; simp [tm_vw]; exact p3.symm
      have w102 : ∀ j, tm_v n2 102 j = tm_v m2 102 j := by intro j; rw [e2, e1]; simp [tm_vw]
      have loop : ∀ (q i : Nat) (m : tm_M), i + q = 3 → tFr wX6_chosen μ m → tm_v m 65 54 = tm_v μ 65 72 → tm_v m 65 59 = sm3 (cor m2) → (∀ j, tm_v m 102 j = tm_v m2 102 j) → (∀ j : Int, 0 ≤ j → j < (i : Int) → tm_v m 93 j = tm_v m2 102 j) → hV wX6_chosen μ mX6_chosen d (fun m => CI0 m ∧ (∀ r, 0 < sm3 r → cvc μ r → cvc m r) ∧ (∀ r u, dl (tm_v μ 65 72) r → rawc μ ≠ (0, 0, 0) → eqv r (rawc μ) → isMx (g_C μ) r u → u * tm_v μ 65 78 ≤ tm_v μ 65 77 * sm3 r → cvc m r)) 144 [(0, 2, 65), (2, 0, (i : Int))] [] m := by
        intro q
        induction q with
        | zero =>
          intro i m hi hm a54 a59 a102 a93
          refine uX6_chosen_144 hm ⟨fun _ => ?_, fun c => by omega⟩
          have et : top3 m = cor m2 := by
            unfold top3 cor
            rw [a93 0 (by omega) (by omega), a93 1 (by omega) (by omega), a93 2 (by omega) (by omega)]
          have a54' : tm_v m 65 54 ≠ 0 := by rw [a54]; have := hG.1; omega
          refine ⟨Or.inr ⟨?_, ?_, ?_, ?_, v, ?_, ?_⟩, fun r hr h => ⟨a54', ?_⟩, fun r u hr hc he hu hl => ⟨a54', ?_⟩⟩
          · rw [a54, hm.v (tWs_noF rfl)]
          · rw [a59]; omega
          · rw [a59, et]
          · rw [et, hm.v (tWs_noF rfl)]; exact p1
          · rw [et, g_C_F hm hT]; exact hv
          · rw [et, hm.v (tWs_noF rfl), hm.v (tWs_noF rfl)]; exact hval
          · rw [et]; exact hmono r hr h
          · rw [et]; exact lx_eqv (at_p r u hr hc he hu).1
        | succ q ih =>
          intro i m hi hm a54 a59 a102 a93
          refine uX6_chosen_144 hm ⟨fun c => by omega, fun _ => ⟨by omega, fun n3 e3 => ?_⟩⟩
          rw [w32_id (x := (i : Int) + 1) (by omega) (by omega)]
          refine ih (i + 1) n3 (by omega) (by rw [e3]; exact hm.w (tWs_in _ rfl) (tS_w hm.S sf_93 _ _)) (by rw [e3, tm_vw, if_neg (by omega)]; exact a54) (by rw [e3, tm_vw, if_neg (by omega)]; exact a59) (fun j => by rw [e3, tm_vw, if_neg (by omega)]; exact a102 j) (fun j j0 j1 => ?_)
          rw [e3, tm_vw]
          by_cases e : j = (i : Int)
          · rw [if_pos ⟨rfl, e⟩, e]; exact a102 i
          · rw [if_neg (fun q => e q.2)]; exact a93 j j0 (by omega)
      exact loop 3 0 n2 (by omega) g2 w54 w59 w102 (fun j j0 j1 => by omega)
    refine ⟨fun c3 => ⟨fun c4 => ?_, fun c4 => ?_⟩, fun c3 => ?_⟩
    · refine upd c3 (fun r hr h => ?_)
      unfold cvc at h
      rw [v54] at c4
      exact absurd c4 h.1
    · rw [v54] at c4
      have hC' : tm_v μ 65 54 = tm_v μ 65 72 ∧ (0 < tm_v μ 65 59 ∧ tm_v μ 65 59 ≤ 1600000000) ∧ tm_v μ 65 59 = sm3 (top3 μ) ∧ dl (tm_v μ 65 72) (top3 μ) ∧ ∃ v, isMx (g_C μ) (top3 μ) v ∧ v * tm_v μ 65 78 ≤ tm_v μ 65 77 * sm3 (top3 μ) := by
        rcases hC with h | h
        · exact absurd h c4
        · exact h
      obtain ⟨_, hbt, hbt2, hdt, _⟩ := hC'
      have hcn := p1.1
      have htn := hdt.1
      have hsc : (cor m2).1 + (cor m2).2.1 + (cor m2).2.2 = sm3 (cor m2) := rfl
      have hst : (top3 μ).1 + (top3 μ).2.1 + (top3 μ).2.2 = sm3 (top3 μ) := rfl
      unfold nn3 at hcn htn
      have htp := hdt.2.1
      have q1 := mul_bd (x := (top3 μ).1) (y := sm3 (cor m2)) (a := 1600000000) (b := 1600000000) (by omega) (by omega)
      have q2 := mul_bd (x := (cor m2).1) (y := sm3 (top3 μ)) (a := 1600000000) (b := 1600000000) (by omega) (by omega)
      have q3 := mul_bd (x := (top3 μ).2.1) (y := sm3 (cor m2)) (a := 1600000000) (b := 1600000000) (by omega) (by omega)
      have q4 := mul_bd (x := (cor m2).2.1) (y := sm3 (top3 μ)) (a := 1600000000) (b := 1600000000) (by omega) (by omega)
      rw [c0, c1, t0, t1, etop, v59, hbt2, w64_id (x := (top3 μ).1 * sm3 (cor m2)) (by omega) (by omega), w64_id (x := (cor m2).1 * sm3 (top3 μ)) (by omega) (by omega), w64_id (x := (top3 μ).2.1 * sm3 (cor m2)) (by omega) (by omega), w64_id (x := (cor m2).2.1 * sm3 (top3 μ)) (by omega) (by omega)]
      have up : lx (cor m2) (top3 μ) → ∀ r, 0 < sm3 r → cvc μ r → lx (cor m2) r := fun h r hr h' => lx_tr hp0 htp hr h h'.2
      have dn : lx (top3 μ) (cor m2) → CI0 m2 ∧ (∀ r, 0 < sm3 r → cvc μ r → cvc m2 r) ∧ (∀ r u, dl (tm_v μ 65 72) r → rawc μ ≠ (0, 0, 0) → eqv r (rawc μ) → isMx (g_C μ) r u → u * tm_v μ 65 78 ≤ tm_v μ 65 77 * sm3 r → cvc m2 r) := by
        intro h
        refine ⟨CI1, fun r _ h => mono1 r h, fun r u hr hc he hu hl => ?_⟩
        unfold cvc
        rw [v54, etop]
        exact ⟨c4, lx_tr htp hp0 hr.2.1 h (lx_eqv (at_p r u hr hc he hu).1)⟩
      refine ⟨fun c5 => upd c3 (up (Or.inl c5)), fun c5 => ⟨fun c6 => dn (Or.inl (by omega)), fun c6 => ⟨fun c7 => dn (Or.inr ⟨c6, c7⟩), fun c7 => upd c3 (up (Or.inr ⟨by omega, by omega⟩))⟩⟩⟩
    · refine ⟨CI1, fun r _ h => mono1 r h, fun r u hr hc he hu hl => ?_⟩
      exfalso
      have h1 := (at_p r u hr hc he hu).2
      have := rt_le (a := v) (s := sm3 (cor m2)) (b := u) (t := sm3 r) (c := tm_v μ 65 77) (u := tm_v μ 65 78) hp0 hr.2.1 hvb.1 (by omega) hl
      omega
end C6X
