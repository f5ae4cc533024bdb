/-! PURE: the value of a game, and the best row of chances -/
def le4 (v a b s v' a' b' s' : Int) : Prop := v * s' < v' * s ∨ (v * s' = v' * s ∧ (a' * s < a * s' ∨ (a' * s = a * s' ∧ b' * s ≤ b * s')))
theorem rt_lt {a s b t c u : Int} (hs : 0 < s) (ht : 0 < t) (hu : 0 < u) (h1 : a * t < b * s) (h2 : b * u ≤ c * t) : a * u < c * s := by
  have k1 : a * t * u < b * s * u := Int.mul_lt_mul_of_pos_right h1 hu
  have k2 : b * u * s ≤ c * t * s := Int.mul_le_mul_of_nonneg_right h2 (by omega)
  have k3 : t * (a * u) < t * (c * s) := by grind
  exact Int.lt_of_mul_lt_mul_left k3 (by omega)
theorem rt_lt' {a s b t c u : Int} (hs : 0 < s) (ht : 0 < t) (hu : 0 < u) (h1 : a * t ≤ b * s) (h2 : b * u < c * t) : a * u < c * s := by
  have k1 : a * t * u ≤ b * s * u := Int.mul_le_mul_of_nonneg_right h1 (by omega)
  have k2 : b * u * s < c * t * s := Int.mul_lt_mul_of_pos_right h2 hs
  have k3 : t * (a * u) < t * (c * s) := by grind
  exact Int.lt_of_mul_lt_mul_left k3 (by omega)
theorem rt_le {a s b t c u : Int} (hs : 0 < s) (ht : 0 < t) (hu : 0 < u) (h1 : a * t ≤ b * s) (h2 : b * u ≤ c * t) : a * u ≤ c * s := by
  have k1 : a * t * u ≤ b * s * u := Int.mul_le_mul_of_nonneg_right h1 (by omega)
  have k2 : b * u * s ≤ c * t * s := Int.mul_le_mul_of_nonneg_right h2 (by omega)
  have k3 : t * (a * u) ≤ t * (c * s) := by grind
  exact Int.le_of_mul_le_mul_left k3 ht
theorem rt_eq {a s b t c u : Int} (hs : 0 < s) (ht : 0 < t) (hu : 0 < u) (h1 : a * t = b * s) (h2 : b * u = c * t) : a * u = c * s := by
  have := rt_le hs ht hu (Int.le_of_eq h1) (Int.le_of_eq h2)
  have := rt_le (a := c) (s := u) (b := b) (t := t) (c := a) (u := s) hu ht hs (by omega) (by omega)
  omega
theorem le4_tr {v a b s v' a' b' s' v'' a'' b'' s'' : Int} (hs : 0 < s) (hs' : 0 < s') (hs'' : 0 < s'') (h : le4 v a b s v' a' b' s') (h' : le4 v' a' b' s' v'' a'' b'' s'') : le4 v a b s v'' a'' b'' s'' := by
  unfold le4 at *
  rcases h with h | ⟨h, g⟩
  · rcases h' with h' | ⟨h', _⟩
    · exact Or.inl (rt_lt hs hs' hs'' h (by omega))
    · exact Or.inl (rt_lt hs hs' hs'' h (by omega))
  · rcases h' with h' | ⟨h', g'⟩
    · exact Or.inl (rt_lt' hs hs' hs'' (by omega) h')
    · refine Or.inr ⟨rt_eq hs hs' hs'' h h', ?_⟩
      rcases g with g | ⟨g, k⟩
      · rcases g' with g' | ⟨g', _⟩
        · exact Or.inl (rt_lt hs'' hs' hs g' (by omega))
        · exact Or.inl (rt_lt' hs'' hs' hs (by omega) g)
      · rcases g' with g' | ⟨g', k'⟩
        · exact Or.inl (rt_lt hs'' hs' hs g' (by omega))
        · exact Or.inr ⟨rt_eq hs'' hs' hs g' g, rt_le hs'' hs' hs k' k⟩
theorem le4_as {v a b s v' a' b' s' : Int} (h : le4 v a b s v' a' b' s') (h' : le4 v' a' b' s' v a b s) : v * s' = v' * s ∧ a * s' = a' * s ∧ b * s' = b' * s := by
  unfold le4 at *; omega
def isMx (C : List V3) (p : V3) (v : Int) : Prop := (∀ c ∈ C, dt c p ≤ v) ∧ ∃ c, c ∈ C ∧ dt c p = v
/-- a row of chances for R picks -/
def dl (R : Int) (p : V3) : Prop := nn3 p ∧ 0 < sm3 p ∧ (R ≤ 2 → p.2.2 = 0) ∧ (R ≤ 1 → p.2.1 = 0)
def le3 (p : V3) (v : Int) (q : V3) (u : Int) : Prop := le4 v p.1 p.2.1 (sm3 p) u q.1 q.2.1 (sm3 q)
def opt (R : Int) (C : List V3) (p : V3) (v : Int) : Prop := dl R p ∧ isMx C p v ∧ ∀ q u, dl R q → isMx C q u → le3 p v q u
theorem opt_uq {R : Int} {C : List V3} {p p' : V3} {v v' : Int} (h : opt R C p v) (h' : opt R C p' v') : v * sm3 p' = v' * sm3 p ∧ p.1 * sm3 p' = p'.1 * sm3 p ∧ p.2.1 * sm3 p' = p'.2.1 * sm3 p ∧ p.2.2 * sm3 p' = p'.2.2 * sm3 p := by
  have := le4_as (h.2.2 p' v' h'.1 h'.2.1) (h'.2.2 p v h.1 h.2.1)
  refine ⟨this.1, this.2.1, this.2.2, ?_⟩
  have h1 := this.2.1
  have h2 := this.2.2
  simp only [sm3] at *
  grind
theorem isMx_uq {C : List V3} {p : V3} {v v' : Int} (h : isMx C p v) (h' : isMx C p v') : v = v' := by
  obtain ⟨c, hc, e⟩ := h.2
  obtain ⟨c', hc', e'⟩ := h'.2
  have := h.1 c' hc'
  have := h'.1 c hc
  omega
theorem isMx_ex {C : List V3} (hC : C ≠ []) (p : V3) : ∃ v, isMx C p v := by
  induction C with
  | nil => exact absurd rfl hC
  | cons a C ih =>
    by_cases e : C = []
    · subst e
      refine ⟨dt a p, fun c hc => ?_, a, List.mem_cons_self, rfl⟩
      rw [List.mem_singleton] at hc; rw [hc]; exact Int.le_refl _
    · obtain ⟨v, h1, c, hc, e2⟩ := ih e
      by_cases k : v ≤ dt a p
      · refine ⟨dt a p, fun c hc => ?_, a, List.mem_cons_self, rfl⟩
        rcases List.mem_cons.mp hc with q | q
        · rw [q]; exact Int.le_refl _
        · have := h1 c q; omega
      · refine ⟨v, fun c hc => ?_, c, List.mem_cons_of_mem _ hc, e2⟩
        rcases List.mem_cons.mp hc with q | q
        · rw [q]; omega
        · exact h1 c q
/-- a move that is as good -/
theorem btr_le {c q p : V3} (hq : 0 < sm3 q) (h : btr (cb 0 (0, 0, 0) (-1) c) (1, 0, 0) (0, 1, 0) q p) : 0 < sm3 p ∧ le3 p (dt c p) q (dt c q) := by
  obtain ⟨x, δ, hx, rfl, hs, hl⟩ := h
  have e1 : sm3 (cb x q 1 δ) = x * sm3 q := by rw [sm_cb, hs]; omega
  have en : dt (cb 0 (0, 0, 0) (-1) c) δ = - dt c δ := by simp only [dt, cb]; grind
  rw [en, (dt_e δ).1, (dt_e δ).2.1] at hl
  refine ⟨by rw [e1]; exact Int.mul_pos hx hq, ?_⟩
  unfold le3 le4
  rw [e1, dt_cb]
  have k1 : (x * dt c q + 1 * dt c δ) * sm3 q = dt c q * (x * sm3 q) + dt c δ * sm3 q := by grind
  have k2 : (cb x q 1 δ).1 * sm3 q = q.1 * (x * sm3 q) + δ.1 * sm3 q := by simp only [cb]; grind
  have k3 : (cb x q 1 δ).2.1 * sm3 q = q.2.1 * (x * sm3 q) + δ.2.1 * sm3 q := by simp only [cb]; grind
  rw [k1, k2, k3]
  unfold ln at hl
  rcases hl with hl | ⟨hl, g⟩
  · have := Int.mul_neg_of_neg_of_pos (show dt c δ < 0 by omega) hq; left; omega
  · have z : dt c δ * sm3 q = 0 := by rw [show dt c δ = 0 by omega, Int.zero_mul]
    right
    refine ⟨by omega, ?_⟩
    rcases g with g | ⟨g, k⟩
    · have := Int.mul_pos g hq; left; omega
    · have z2 : δ.1 * sm3 q = 0 := by rw [g, Int.zero_mul]
      have := Int.mul_nonneg k (show 0 ≤ sm3 q by omega)
      right; omega
theorem btr_lx {q p : V3} (hq : 0 < sm3 q) (h : btr (1, 0, 0) (0, 1, 0) (0, 0, 0) q p) : 0 < sm3 p ∧ (q.1 * sm3 p < p.1 * sm3 q ∨ (q.1 * sm3 p = p.1 * sm3 q ∧ q.2.1 * sm3 p ≤ p.2.1 * sm3 q)) := by
  obtain ⟨x, δ, hx, rfl, hs, hl⟩ := h
  have e1 : sm3 (cb x q 1 δ) = x * sm3 q := by rw [sm_cb, hs]; omega
  rw [(dt_e δ).1, (dt_e δ).2.1] at hl
  refine ⟨by rw [e1]; exact Int.mul_pos hx hq, ?_⟩
  rw [e1]
  have k2 : (cb x q 1 δ).1 * sm3 q = q.1 * (x * sm3 q) + δ.1 * sm3 q := by simp only [cb]; grind
  have k3 : (cb x q 1 δ).2.1 * sm3 q = q.2.1 * (x * sm3 q) + δ.2.1 * sm3 q := by simp only [cb]; grind
  rw [k2, k3]
  unfold ln at hl
  rcases hl with hl | ⟨hl, g⟩
  · have := Int.mul_pos hl hq; left; omega
  · have z2 : δ.1 * sm3 q = 0 := by rw [hl, Int.zero_mul]
    have h0 : 0 ≤ δ.2.1 := by omega
    have := Int.mul_nonneg h0 (show 0 ≤ sm3 q by omega)
    right; omega
/-- what lies on two lines -/
theorem prp {a b p : V3} (h1 : dt a p = 0) (h2 : dt b p = 0) : p.1 * sm3 (cr a b) = (cr a b).1 * sm3 p ∧ p.2.1 * sm3 (cr a b) = (cr a b).2.1 * sm3 p ∧ p.2.2 * sm3 (cr a b) = (cr a b).2.2 * sm3 p := by
  obtain ⟨a1, a2, a3⟩ := a
  obtain ⟨b1, b2, b3⟩ := b
  obtain ⟨p1, p2, p3⟩ := p
  simp only [dt, cr, sm3] at *
  have x1 : p2 * (a1 * b2 - a2 * b1) - p3 * (a3 * b1 - a1 * b3) = 0 := by
    have : p2 * (a1 * b2 - a2 * b1) - p3 * (a3 * b1 - a1 * b3) = a1 * (b1 * p1 + b2 * p2 + b3 * p3) - b1 * (a1 * p1 + a2 * p2 + a3 * p3) := by grind
    rw [this, h1, h2]; simp
  have x2 : p3 * (a2 * b3 - a3 * b2) - p1 * (a1 * b2 - a2 * b1) = 0 := by
    have : p3 * (a2 * b3 - a3 * b2) - p1 * (a1 * b2 - a2 * b1) = a2 * (b1 * p1 + b2 * p2 + b3 * p3) - b2 * (a1 * p1 + a2 * p2 + a3 * p3) := by grind
    rw [this, h1, h2]; simp
  have x3 : p1 * (a3 * b1 - a1 * b3) - p2 * (a2 * b3 - a3 * b2) = 0 := by
    have : p1 * (a3 * b1 - a1 * b3) - p2 * (a2 * b3 - a3 * b2) = a3 * (b1 * p1 + b2 * p2 + b3 * p3) - b3 * (a1 * p1 + a2 * p2 + a3 * p3) := by grind
    rw [this, h1, h2]; simp
  refine ⟨?_, ?_, ?_⟩ <;> grind
theorem prp_ne {a b p : V3} (hp : 0 < sm3 p) (hc : cr a b ≠ (0, 0, 0)) (h1 : dt a p = 0) (h2 : dt b p = 0) : sm3 (cr a b) ≠ 0 := by
  intro h
  apply hc
  have := prp h1 h2
  rw [h] at this
  have z := fun x (hx : x * sm3 p = 0) => (Int.mul_eq_zero.mp hx).resolve_right (by omega)
  have e1 := z (cr a b).1 (by have := this.1; omega)
  have e2 := z (cr a b).2.1 (by have := this.2.1; omega)
  have e3 := z (cr a b).2.2 (by have := this.2.2; omega)
  exact Prod.ext e1 (Prod.ext e2 e3)
def ng (c : V3) : V3 := if sm3 c < 0 then (-c.1, -c.2.1, -c.2.2) else c
theorem ng_pos {c : V3} (h : sm3 c ≠ 0) : 0 < sm3 (ng c) := by
  unfold ng
  split
  · simp only [sm3] at *; omega
  · omega
/-- p and r are one row of chances -/
def eqv (p r : V3) : Prop := p.1 * sm3 r = r.1 * sm3 p ∧ p.2.1 * sm3 r = r.2.1 * sm3 p ∧ p.2.2 * sm3 r = r.2.2 * sm3 p
theorem eqv_ng {p c : V3} (h : eqv p c) : eqv p (ng c) := by
  unfold ng
  split
  · unfold eqv at *
    have e : sm3 (-c.1, -c.2.1, -c.2.2) = - sm3 c := by simp only [sm3]; omega
    rw [e]
    refine ⟨?_, ?_, ?_⟩ <;> dsimp only <;> grind
  · exact h
theorem eqv_sy {p r : V3} (h : eqv p r) : eqv r p := ⟨h.1.symm, h.2.1.symm, h.2.2.symm⟩
theorem eqv_dt {p r : V3} (h : eqv p r) (c : V3) : dt c p * sm3 r = dt c r * sm3 p := by
  obtain ⟨h1, h2, h3⟩ := h
  simp only [dt]
  have : (c.1 * p.1 + c.2.1 * p.2.1 + c.2.2 * p.2.2) * sm3 r = c.1 * (p.1 * sm3 r) + c.2.1 * (p.2.1 * sm3 r) + c.2.2 * (p.2.2 * sm3 r) := by grind
  rw [this, h1, h2, h3]; grind
theorem eqv_nn {R : Int} {p r : V3} (h : eqv p r) (hp : dl R p) (hr : 0 < sm3 r) : dl R r := by
  obtain ⟨⟨n1, n2, n3⟩, hs, k1, k2⟩ := hp
  have hs' : sm3 p ≠ 0 := by omega
  have f : ∀ x y : Int, 0 ≤ x → x * sm3 r = y * sm3 p → 0 ≤ y := by
    intro x y hx e
    have h0 : 0 ≤ y * sm3 p := by rw [← e]; exact Int.mul_nonneg hx (by omega)
    by_cases c : 0 ≤ y
    · exact c
    · have := Int.mul_neg_of_neg_of_pos (show y < 0 by omega) hs; omega
  have z : ∀ x y : Int, x = 0 → x * sm3 r = y * sm3 p → y = 0 := by
    intro x y hx e
    rw [hx, Int.zero_mul] at e
    exact (Int.mul_eq_zero.mp e.symm).resolve_right hs'
  exact ⟨⟨f _ _ n1 h.1, f _ _ n2 h.2.1, f _ _ n3 h.2.2⟩, hr, fun q => z _ _ (k1 q) h.2.2, fun q => z _ _ (k2 q) h.2.1⟩
theorem eqv_mx {C : List V3} {p r c : V3} (h : eqv p r) (hp : 0 < sm3 p) (hr : 0 < sm3 r) (hm : isMx C p (dt c p)) : isMx C r (dt c r) := by
  have key : ∀ g ∈ C, dt g r ≤ dt c r := by
    intro g hg
    have h1 := hm.1 g hg
    have h2 := Int.mul_le_mul_of_nonneg_right h1 (show 0 ≤ sm3 r by omega)
    rw [eqv_dt h, eqv_dt h] at h2
    exact Int.le_of_mul_le_mul_right h2 hp
  refine ⟨key, ?_⟩
  obtain ⟨g, hg, e⟩ := hm.2
  refine ⟨g, hg, ?_⟩
  have h2 : dt g p * sm3 r = dt c p * sm3 r := by rw [e]
  rw [eqv_dt h, eqv_dt h] at h2
  exact Int.eq_of_mul_eq_mul_right (by omega) h2
theorem eqv_le {p r c : V3} (h : eqv p r) : le3 r (dt c r) p (dt c p) := by
  unfold le3 le4
  right
  refine ⟨by have := eqv_dt h c; omega, Or.inr ⟨by have := h.1; omega, by have := h.2.1; omega⟩⟩
/-- corners for R picks: by two lines of S, by one, or the first pick alone -/
def crn (R : Int) (S : List V3) (p : V3) : Prop :=
  (R = 3 ∧ ∃ a, a ∈ S ∧ ∃ b, b ∈ S ∧ cr a b ≠ (0, 0, 0) ∧ eqv p (cr a b)) ∨ (R = 2 ∧ ∃ b, b ∈ S ∧ cr (0, 0, 1) b ≠ (0, 0, 0) ∧ eqv p (cr (0, 0, 1) b)) ∨ (R = 1 ∧ eqv p (1, 0, 0))
theorem cnR {R : Int} {S : List V3} {q : V3} (o1 o2 o3 : V3) (hR : R = 1 ∨ R = 2 ∨ R = 3) (hE : hasE S) (hq : dl R q) : ∃ p, dl R p ∧ crn R S p ∧ sg S q p ∧ btr o1 o2 o3 q p := by
  have bs : ∀ p, btr o1 o2 o3 q p → 0 < sm3 p := by
    rintro p ⟨x, δ, hx, rfl, hs, hl⟩
    rw [sm_cb, hs]; have := Int.mul_pos hx hq.2.1; omega
  rcases hR with e | e | e
  · refine ⟨q, hq, Or.inr (Or.inr ⟨e, ?_⟩), fun g _ => ⟨id, id⟩, btr_rf _ _ _ _⟩
    have h1 := hq.2.2.1 (by omega)
    have h2 := hq.2.2.2 (by omega)
    unfold eqv
    simp only [sm3]
    rw [h1, h2]; simp
  · have h2 := hq.2.2.1 (by omega)
    obtain ⟨p, ⟨a, ha, b, hb, hc, ha0, hb0⟩, hsg, hbt⟩ := cn1 o1 o2 o3 hE hq.1 hq.2.1 hE.2.2 (by decide) (by rw [(dt_e q).2.2]; exact h2)
    have hn := sg_nn hE hq.1 hsg
    have p2 : p.2.2 = 0 := by
      have := hsg _ hE.2.2
      rw [(dt_e q).2.2, (dt_e p).2.2, h2] at this
      have a := this.1 (Int.le_refl _)
      have b := this.2 (Int.le_refl _)
      omega
    have hp0 : dt (0, 0, 1) p = 0 := by rw [(dt_e p).2.2]; exact p2
    refine ⟨p, ⟨hn, bs p hbt, fun _ => p2, fun q => by omega⟩, Or.inr (Or.inl ⟨e, ?_⟩), hsg, hbt⟩
    by_cases c1 : cr (0, 0, 1) a = (0, 0, 0)
    · by_cases c2 : cr (0, 0, 1) b = (0, 0, 0)
      · exfalso
        apply hc
        obtain ⟨a1, a2, a3⟩ := a
        obtain ⟨b1, b2, b3⟩ := b
        simp only [cr, Prod.mk.injEq] at c1 c2
        have x1 : a1 = 0 := by omega
        have x2 : a2 = 0 := by omega
        have y1 : b1 = 0 := by omega
        have y2 : b2 = 0 := by omega
        rw [x1, x2, y1, y2]
        simp [cr]
      · exact ⟨b, hb, c2, prp hp0 hb0⟩
    · exact ⟨a, ha, c1, prp hp0 ha0⟩
  · obtain ⟨p, ⟨a, ha, b, hb, hc, ha0, hb0⟩, hsg, hbt⟩ := cn o1 o2 o3 hE hq.1 hq.2.1
    refine ⟨p, ⟨sg_nn hE hq.1 hsg, bs p hbt, fun q => by omega, fun q => by omega⟩, Or.inl ⟨e, a, ha, b, hb, hc, prp ha0 hb0⟩, hsg, hbt⟩
/-- S tells which of the columns is the greatest -/
def dfs (S C : List V3) : Prop := ∀ c ∈ C, ∀ g ∈ C, (c = g) ∨ cb 1 c (-1) g ∈ S ∨ cb 1 g (-1) c ∈ S
theorem sg_mx {S C : List V3} {q p c : V3} (hD : dfs S C) (h : sg S q p) (hc : c ∈ C) (hm : isMx C q (dt c q)) : isMx C p (dt c p) := by
  refine ⟨fun g hg => ?_, c, hc, rfl⟩
  have h1 := hm.1 g hg
  have e : ∀ (a b r : V3), dt (cb 1 a (-1) b) r = dt a r - dt b r := by intro a b r; simp only [dt, cb]; grind
  rcases hD c hc g hg with k | k | k
  · rw [k]; exact Int.le_refl _
  · have := (h _ k).1; rw [e, e] at this; have := this (by omega); omega
  · have := (h _ k).2; rw [e, e] at this; have := this (by omega); omega
/-- the best of all corners is the best of all -/
theorem opt_of {R : Int} {S C : List V3} {p : V3} {v : Int} (hR : R = 1 ∨ R = 2 ∨ R = 3) (hE : hasE S) (hD : dfs S C) (hp : dl R p) (hv : isMx C p v)
    (hb : ∀ r u, dl R r → crn R S r → isMx C r u → le3 p v r u) : opt R C p v := by
  refine ⟨hp, hv, fun q u hq hu => ?_⟩
  obtain ⟨c, hc, e⟩ := hu.2
  rw [← e] at hu ⊢
  obtain ⟨r, r1, r2, r3, r4⟩ := cnR (cb 0 (0, 0, 0) (-1) c) (1, 0, 0) (0, 1, 0) hR hE hq
  have := btr_le hq.2.1 r4
  exact le4_tr hp.2.1 this.1 hq.2.1 (hb r (dt c r) r1 r2 (sg_mx hD r3 hc hu)) this.2
/-- the least of all corners' worths is the least of all -/
theorem val_of {R : Int} {S C : List V3} {vt vb : Int} (hR : R = 1 ∨ R = 2 ∨ R = 3) (hE : hasE S) (hD : dfs S C) (hvb : 0 < vb)
    (hb : ∀ r u, dl R r → crn R S r → isMx C r u → vt * sm3 r ≤ u * vb) : ∀ q u, dl R q → isMx C q u → vt * sm3 q ≤ u * vb := by
  intro q u hq hu
  obtain ⟨c, hc, e⟩ := hu.2
  rw [← e] at hu ⊢
  obtain ⟨r, r1, r2, r3, r4⟩ := cnR (cb 0 (0, 0, 0) (-1) c) (1, 0, 0) (0, 1, 0) hR hE hq
  have h1 := btr_le hq.2.1 r4
  have h2 := hb r (dt c r) r1 r2 (sg_mx hD r3 hc hu)
  have h3 : dt c r * sm3 q ≤ dt c q * sm3 r := by have := h1.2; unfold le3 le4 at this; omega
  exact rt_le hvb h1.1 hq.2.1 h2 h3
/-- behind the value: the greatest of the corners that are worth no more -/
theorem opt_of2 {R : Int} {S C : List V3} {vt vb : Int} {p : V3} {v : Int} (hR : R = 1 ∨ R = 2 ∨ R = 3) (hE : hasE S) (hvb : 0 < vb) (hT : ∀ c ∈ C, (vb * c.1 - vt, vb * c.2.1 - vt, vb * c.2.2 - vt) ∈ S)
    (hval : ∀ q u, dl R q → isMx C q u → vt * sm3 q ≤ u * vb) (hp : dl R p) (hv : isMx C p v) (hpv : v * vb ≤ vt * sm3 p) (hC : C ≠ [])
    (hb : ∀ r u, dl R r → crn R S r → isMx C r u → u * vb ≤ vt * sm3 r → (r.1 * sm3 p < p.1 * sm3 r ∨ (r.1 * sm3 p = p.1 * sm3 r ∧ r.2.1 * sm3 p ≤ p.2.1 * sm3 r))) : opt R C p v := by
  refine ⟨hp, hv, fun q u hq hu => ?_⟩
  have h0 := hval q u hq hu
  by_cases k : u * vb ≤ vt * sm3 q
  · have et : ∀ (c r : V3), dt (vb * c.1 - vt, vb * c.2.1 - vt, vb * c.2.2 - vt) r = vb * dt c r - vt * sm3 r := by intro c r; simp only [dt, sm3]; grind
    obtain ⟨r, r1, r2, r3, r4⟩ := cnR (1, 0, 0) (0, 1, 0) (0, 0, 0) hR hE hq
    obtain ⟨w, hw⟩ := isMx_ex hC r
    have h1 := btr_lx hq.2.1 r4
    have h2 : w * vb ≤ vt * sm3 r := by
      obtain ⟨c, hc, e⟩ := hw.2
      have := (r3 _ (hT c hc)).2
      rw [et, et] at this
      have h3 := hu.1 c hc
      have h4 := Int.mul_le_mul_of_nonneg_left h3 (show 0 ≤ vb by omega)
      have := this (by have := Int.mul_comm u vb; omega)
      rw [← e]; have := Int.mul_comm vb (dt c r); omega
    have h3 := hb r w r1 r2 hw h2
    have hvq := hval p v hp hv
    have e1 : v * vb = vt * sm3 p := by omega
    have e2 : u * vb = vt * sm3 q := by omega
    have hvv : v * sm3 q = u * sm3 p := by
      have : vb * (v * sm3 q) = vb * (u * sm3 p) := by
        have a1 : vb * (v * sm3 q) = (v * vb) * sm3 q := by grind
        have a2 : vb * (u * sm3 p) = (u * vb) * sm3 p := by grind
        rw [a1, a2, e1, e2]; grind
      exact Int.eq_of_mul_eq_mul_left (by omega) this
    unfold le3 le4
    refine Or.inr ⟨hvv, ?_⟩
    have t := le4_tr (v := 0) (v' := 0) (v'' := 0) hp.2.1 r1.2.1 hq.2.1 (show le4 0 p.1 p.2.1 (sm3 p) 0 r.1 r.2.1 (sm3 r) from Or.inr ⟨by simp, h3⟩) (show le4 0 r.1 r.2.1 (sm3 r) 0 q.1 q.2.1 (sm3 q) from Or.inr ⟨by simp, h1.2⟩)
    unfold le4 at t
    rcases t with t | t
    · simp at t
    · exact t.2
  · have hvq := hval p v hp hv
    left
    exact rt_lt' hp.2.1 hvb hq.2.1 hpv (by omega)
