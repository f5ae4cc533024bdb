/-! PURE: corners of a row of chances -/
abbrev V3 : Type := Int × Int × Int
def dt (g p : V3) : Int := g.1 * p.1 + g.2.1 * p.2.1 + g.2.2 * p.2.2
def sm3 (p : V3) : Int := p.1 + p.2.1 + p.2.2
def cb (x : Int) (q : V3) (y : Int) (d : V3) : V3 := (x * q.1 + y * d.1, x * q.2.1 + y * d.2.1, x * q.2.2 + y * d.2.2)
def cr (a b : V3) : V3 := (a.2.1 * b.2.2 - a.2.2 * b.2.1, a.2.2 * b.1 - a.1 * b.2.2, a.1 * b.2.1 - a.2.1 * b.1)
def ln (a b c : Int) : Prop := 0 < a ∨ (a = 0 ∧ (0 < b ∨ (b = 0 ∧ 0 ≤ c)))
def nn3 (p : V3) : Prop := 0 ≤ p.1 ∧ 0 ≤ p.2.1 ∧ 0 ≤ p.2.2
theorem dt_cb (g q d : V3) (x y : Int) : dt g (cb x q y d) = x * dt g q + y * dt g d := by
  simp only [dt, cb]; grind
theorem sm_cb (q d : V3) (x y : Int) : sm3 (cb x q y d) = x * sm3 q + y * sm3 d := by
  simp only [sm3, cb]; grind
theorem ln_or (a b c : Int) : ln a b c ∨ ln (-a) (-b) (-c) := by unfold ln; omega
theorem ln_add {a b c a' b' c' : Int} (h : ln a b c) (h' : ln a' b' c') : ln (a + a') (b + b') (c + c') := by unfold ln at *; omega
theorem ln_mul {a b c x : Int} (hx : 0 < x) (h : ln a b c) : ln (x * a) (x * b) (x * c) := by
  unfold ln at *
  rcases h with h | ⟨h, h2 | ⟨h2, h3⟩⟩
  · exact Or.inl (Int.mul_pos hx h)
  · exact Or.inr ⟨by rw [h, Int.mul_zero], Or.inl (Int.mul_pos hx h2)⟩
  · exact Or.inr ⟨by rw [h, Int.mul_zero], Or.inr ⟨by rw [h2, Int.mul_zero], Int.mul_nonneg (by omega) h3⟩⟩
theorem mn (f h : V3 → Int) : ∀ (L : List V3), L ≠ [] → (∀ g ∈ L, 0 < f g ∧ 0 < h g) → ∃ m, m ∈ L ∧ ∀ g ∈ L, f m * h g ≤ f g * h m := by
  intro L
  induction L with
  | nil => intro h; exact absurd rfl h
  | cons a L ih =>
    intro _ hp
    by_cases e : L = []
    · subst e
      refine ⟨a, List.mem_cons_self, fun g hg => ?_⟩
      rw [List.mem_singleton] at hg
      rw [hg]; exact Int.le_refl _
    · obtain ⟨m, hm, hall⟩ := ih e (fun g hg => hp g (List.mem_cons_of_mem _ hg))
      by_cases c : f m * h a ≤ f a * h m
      · refine ⟨m, List.mem_cons_of_mem _ hm, fun g hg => ?_⟩
        rcases List.mem_cons.mp hg with e | hg
        · rw [e]; exact c
        · exact hall g hg
      · refine ⟨a, List.mem_cons_self, fun g hg => ?_⟩
        rcases List.mem_cons.mp hg with e | hg
        · rw [e]; exact Int.le_refl _
        · have h1 := hall g hg
          have pm := hp m (List.mem_cons_of_mem _ hm)
          have pa := hp a List.mem_cons_self
          have pg := hp g (List.mem_cons_of_mem _ hg)
          have h2 : f a * h m * h g ≤ f m * h a * h g := Int.mul_le_mul_of_nonneg_right (by omega) (by omega)
          have h3 : f m * h g * h a ≤ f g * h m * h a := Int.mul_le_mul_of_nonneg_right h1 (by omega)
          have h4 : h m * (f a * h g) ≤ h m * (f g * h a) := by grind
          exact Int.le_of_mul_le_mul_left h4 pm.2
def sg (S : List V3) (q p : V3) : Prop := ∀ g ∈ S, (0 ≤ dt g q → 0 ≤ dt g p) ∧ (dt g q ≤ 0 → dt g p ≤ 0)
def hasE (S : List V3) : Prop := (1, 0, 0) ∈ S ∧ (0, 1, 0) ∈ S ∧ (0, 0, 1) ∈ S
theorem dt_e (p : V3) : dt (1, 0, 0) p = p.1 ∧ dt (0, 1, 0) p = p.2.1 ∧ dt (0, 0, 1) p = p.2.2 := by simp only [dt]; grind
theorem sg_nn {S : List V3} {q p : V3} (hE : hasE S) (hq : nn3 q) (h : sg S q p) : nn3 p := by
  have e := dt_e q
  have e' := dt_e p
  refine ⟨?_, ?_, ?_⟩
  · have := (h _ hE.1).1; rw [e.1, e'.1] at this; exact this hq.1
  · have := (h _ hE.2.1).1; rw [e.2.1, e'.2.1] at this; exact this hq.2.1
  · have := (h _ hE.2.2).1; rw [e.2.2, e'.2.2] at this; exact this hq.2.2
theorem mv {S : List V3} {q d : V3} (hE : hasE S) (hq : nn3 q) (hd : sm3 d = 0) (hne : d ≠ (0, 0, 0)) (ha : ∀ g ∈ S, dt g q = 0 → dt g d = 0) :
    ∃ b, b ∈ S ∧ dt b q ≠ 0 ∧ ∃ x y, 0 < x ∧ 0 < y ∧ dt b (cb x q y d) = 0 ∧ sg S q (cb x q y d) := by
  have mem : ∀ g, g ∈ S.filter (fun g => decide (dt g q * dt g d < 0)) ↔ g ∈ S ∧ dt g q * dt g d < 0 := by
    intro g; rw [List.mem_filter, decide_eq_true_eq]
  have hL : S.filter (fun g => decide (dt g q * dt g d < 0)) ≠ [] := by
    have e := dt_e q
    have e' := dt_e d
    have key : ∃ g ∈ S, dt g q * dt g d < 0 := by
      have k1 : ∀ g ∈ S, 0 ≤ dt g q → dt g d < 0 → dt g q * dt g d < 0 := by
        intro g hg h1 h2
        have : dt g q ≠ 0 := fun h => by have := ha g hg h; omega
        exact Int.mul_neg_of_pos_of_neg (by omega) h2
      have h3 : d.1 < 0 ∨ d.2.1 < 0 ∨ d.2.2 < 0 := by
        unfold sm3 at hd
        by_cases c : d.1 = 0 ∧ d.2.1 = 0
        · exfalso; apply hne; obtain ⟨d1, d2, d3⟩ := d; dsimp only at *; rw [c.1, c.2, show d3 = 0 by omega]
        · omega
      rcases h3 with h | h | h
      · exact ⟨_, hE.1, k1 _ hE.1 (by rw [e.1]; exact hq.1) (by rw [e'.1]; exact h)⟩
      · exact ⟨_, hE.2.1, k1 _ hE.2.1 (by rw [e.2.1]; exact hq.2.1) (by rw [e'.2.1]; exact h)⟩
      · exact ⟨_, hE.2.2, k1 _ hE.2.2 (by rw [e.2.2]; exact hq.2.2) (by rw [e'.2.2]; exact h)⟩
    obtain ⟨g, hg, h⟩ := key
    intro h0
    have := (mem g).mpr ⟨hg, h⟩
    rw [h0] at this
    exact absurd this List.not_mem_nil
  have sgn : ∀ x y : Int, x * y < 0 → (0 < x ∧ y < 0) ∨ (x < 0 ∧ 0 < y) := by
    intro x y h
    rcases Int.lt_trichotomy x 0 with hx | hx | hx
    · right
      refine ⟨hx, ?_⟩
      by_cases c : 0 < y
      · exact c
      · have := Int.mul_nonneg_of_nonpos_of_nonpos (show x ≤ 0 by omega) (show y ≤ 0 by omega); omega
    · rw [hx, Int.zero_mul] at h; omega
    · left
      refine ⟨hx, ?_⟩
      by_cases c : y < 0
      · exact c
      · have := Int.mul_nonneg (show 0 ≤ x by omega) (show 0 ≤ y by omega); omega
  obtain ⟨b, hb, hmin⟩ := mn (fun g => ((dt g q).natAbs : Int)) (fun g => ((dt g d).natAbs : Int)) _ hL (by
    intro g hg
    have := sgn _ _ ((mem g).mp hg).2
    omega)
  have hbS := (mem b).mp hb
  have sb := sgn _ _ hbS.2
  refine ⟨b, hbS.1, by omega, ((dt b d).natAbs : Int), ((dt b q).natAbs : Int), by omega, by omega, ?_, ?_⟩
  · rw [dt_cb]
    rcases sb with ⟨h1, h2⟩ | ⟨h1, h2⟩
    · rw [show ((dt b d).natAbs : Int) = - dt b d by omega, show ((dt b q).natAbs : Int) = dt b q by omega]; grind
    · rw [show ((dt b d).natAbs : Int) = dt b d by omega, show ((dt b q).natAbs : Int) = - dt b q by omega]; grind
  · intro g hg
    rw [dt_cb]
    have p1 : (0 : Int) ≤ ((dt b d).natAbs : Int) := by omega
    have p2 : (0 : Int) ≤ ((dt b q).natAbs : Int) := by omega
    by_cases c : dt g q * dt g d < 0
    · have hm := hmin g ((mem g).mpr ⟨hg, c⟩)
      rcases sgn _ _ c with ⟨h1, h2⟩ | ⟨h1, h2⟩
      · rw [show ((dt g d).natAbs : Int) = - dt g d by omega, show ((dt g q).natAbs : Int) = dt g q by omega] at hm
        refine ⟨fun _ => ?_, fun h => by omega⟩
        grind
      · rw [show ((dt g d).natAbs : Int) = dt g d by omega, show ((dt g q).natAbs : Int) = - dt g q by omega] at hm
        refine ⟨fun h => by omega, fun _ => ?_⟩
        grind
    · rcases Int.lt_trichotomy (dt g q) 0 with hx | hx | hx
      · have : dt g d ≤ 0 := by
          by_cases h : dt g d ≤ 0
          · exact h
          · exact absurd (Int.mul_neg_of_neg_of_pos hx (by omega)) c
        have h1 := Int.mul_nonpos_of_nonneg_of_nonpos p1 (show dt g q ≤ 0 by omega)
        have h2 := Int.mul_nonpos_of_nonneg_of_nonpos p2 this
        exact ⟨fun h => by omega, fun _ => by omega⟩
      · rw [hx, ha g hg hx]; simp
      · have : 0 ≤ dt g d := by
          by_cases h : 0 ≤ dt g d
          · exact h
          · exact absurd (Int.mul_neg_of_pos_of_neg hx (by omega)) c
        have h1 := Int.mul_nonneg p1 (show 0 ≤ dt g q by omega)
        have h2 := Int.mul_nonneg p2 this
        exact ⟨fun _ => by omega, fun h => by omega⟩
/-- p is as good as q: by a move that keeps the sum -/
def btr (o1 o2 o3 q p : V3) : Prop := ∃ x δ, 0 < x ∧ p = cb x q 1 δ ∧ sm3 δ = 0 ∧ ln (dt o1 δ) (dt o2 δ) (dt o3 δ)
def act (S : List V3) (p : V3) : Prop := ∃ a, a ∈ S ∧ ∃ b, b ∈ S ∧ cr a b ≠ (0, 0, 0) ∧ dt a p = 0 ∧ dt b p = 0
theorem cb_1 (q d : V3) (x y : Int) : cb x q y d = cb x q 1 (y * d.1, y * d.2.1, y * d.2.2) := by simp only [cb]; simp
theorem btr_of {o1 o2 o3 q d : V3} {x y : Int} (hx : 0 < x) (hy : 0 < y) (hd : sm3 d = 0) (hl : ln (dt o1 d) (dt o2 d) (dt o3 d)) : btr o1 o2 o3 q (cb x q y d) := by
  refine ⟨x, (y * d.1, y * d.2.1, y * d.2.2), hx, cb_1 _ _ _ _, ?_, ?_⟩
  · have : sm3 (y * d.1, y * d.2.1, y * d.2.2) = y * sm3 d := by simp only [sm3]; grind
    rw [this, hd, Int.mul_zero]
  · have e : ∀ g : V3, dt g (y * d.1, y * d.2.1, y * d.2.2) = y * dt g d := by intro g; simp only [dt]; grind
    rw [e, e, e]
    exact ln_mul hy hl
theorem btr_tr {o1 o2 o3 q p r : V3} (h : btr o1 o2 o3 q p) (h' : btr o1 o2 o3 p r) : btr o1 o2 o3 q r := by
  obtain ⟨x, δ, hx, rfl, hs, hl⟩ := h
  obtain ⟨y, ε, hy, rfl, hs', hl'⟩ := h'
  refine ⟨y * x, cb y δ 1 ε, Int.mul_pos hy hx, ?_, ?_, ?_⟩
  · simp only [cb]; refine Prod.ext ?_ (Prod.ext ?_ ?_) <;> dsimp only <;> grind
  · rw [sm_cb, hs, hs']; simp
  · rw [dt_cb, dt_cb, dt_cb]
    have := ln_add (ln_mul hy hl) hl'
    simpa using this
theorem btr_rf (o1 o2 o3 q : V3) : btr o1 o2 o3 q q := by
  refine ⟨1, (0, 0, 0), by decide, ?_, rfl, ?_⟩
  · simp only [cb]; obtain ⟨a, b, c⟩ := q; simp
  · unfold ln; right; simp [dt]
theorem cr_0 {a b q : V3} (h : cr a b = (0, 0, 0)) (ha : a ≠ (0, 0, 0)) (hq : dt a q = 0) : dt b q = 0 := by
  obtain ⟨a1, a2, a3⟩ := a
  obtain ⟨b1, b2, b3⟩ := b
  obtain ⟨q1, q2, q3⟩ := q
  simp only [cr, Prod.mk.injEq] at h
  simp only [dt] at *
  obtain ⟨h1, h2, h3⟩ := h
  have k1 : a1 * (b1 * q1 + b2 * q2 + b3 * q3) = 0 := by
    have : a1 * (b1 * q1 + b2 * q2 + b3 * q3) = b1 * (a1 * q1 + a2 * q2 + a3 * q3) := by grind
    rw [this, hq, Int.mul_zero]
  have k2 : a2 * (b1 * q1 + b2 * q2 + b3 * q3) = 0 := by
    have : a2 * (b1 * q1 + b2 * q2 + b3 * q3) = b2 * (a1 * q1 + a2 * q2 + a3 * q3) := by grind
    rw [this, hq, Int.mul_zero]
  have k3 : a3 * (b1 * q1 + b2 * q2 + b3 * q3) = 0 := by
    have : a3 * (b1 * q1 + b2 * q2 + b3 * q3) = b3 * (a1 * q1 + a2 * q2 + a3 * q3) := by grind
    rw [this, hq, Int.mul_zero]
  by_cases c : b1 * q1 + b2 * q2 + b3 * q3 = 0
  · exact c
  · exfalso
    apply ha
    have z := fun x (hx : x * (b1 * q1 + b2 * q2 + b3 * q3) = 0) => (Int.mul_eq_zero.mp hx).resolve_right c
    rw [z _ k1, z _ k2, z _ k3]
theorem cn1 {S : List V3} {q a : V3} (o1 o2 o3 : V3) (hE : hasE S) (hq : nn3 q) (hs : 0 < sm3 q) (ha : a ∈ S) (hz : a ≠ (0, 0, 0)) (h0 : dt a q = 0) : ∃ p, act S p ∧ sg S q p ∧ btr o1 o2 o3 q p := by
  by_cases hA : act S q
  · exact ⟨q, hA, fun g _ => ⟨id, id⟩, btr_rf _ _ _ _⟩
  · have hact : ∀ g ∈ S, dt g q = 0 → cr a g = (0, 0, 0) := by
      intro g hg hg0
      by_cases c : cr a g = (0, 0, 0)
      · exact c
      · exact absurd ⟨a, ha, g, hg, c, h0, hg0⟩ hA
    have go : ∀ d : V3, sm3 d = 0 → d ≠ (0, 0, 0) → dt a d = 0 → (∀ g ∈ S, dt g q = 0 → dt g d = 0) → ln (dt o1 d) (dt o2 d) (dt o3 d) → ∃ p, act S p ∧ sg S q p ∧ btr o1 o2 o3 q p := by
      intro d hd hne had hgd hl
      obtain ⟨b, hb, hbq, x, y, hx, hy, hb0, hsg⟩ := mv hE hq hd hne hgd
      refine ⟨cb x q y d, ⟨a, ha, b, hb, fun h => hbq (cr_0 h hz h0), ?_, hb0⟩, hsg, btr_of hx hy hd hl⟩
      rw [dt_cb, h0, had]; simp
    have e1 : ∀ g : V3, dt g (cr (1, 1, 1) a) = sm3 (cr a g) := by intro g; simp only [dt, cr, sm3]; grind
    have e2 : sm3 (cr (1, 1, 1) a) = 0 := by simp only [cr, sm3]; grind
    have e3 : cr (1, 1, 1) a ≠ (0, 0, 0) := by
      intro h
      obtain ⟨a1, a2, a3⟩ := a
      simp only [cr, Prod.mk.injEq] at h
      have x1 : a2 = a1 := by omega
      have x2 : a3 = a1 := by omega
      rw [x1, x2] at h0 hz
      have : a1 * sm3 q = 0 := by rw [← h0]; simp only [dt, sm3]; grind
      rcases Int.mul_eq_zero.mp this with h | h
      · apply hz; rw [h]
      · omega
    have e4 : dt a (cr (1, 1, 1) a) = 0 := by simp only [dt, cr]; grind
    have e5 : ∀ g ∈ S, dt g q = 0 → dt g (cr (1, 1, 1) a) = 0 := fun g hg h => by rw [e1, hact g hg h]; rfl
    have neg : ∀ g : V3, dt g (cb 0 (0, 0, 0) (-1) (cr (1, 1, 1) a)) = - dt g (cr (1, 1, 1) a) := by intro g; rw [dt_cb]; simp
    rcases ln_or (dt o1 (cr (1, 1, 1) a)) (dt o2 (cr (1, 1, 1) a)) (dt o3 (cr (1, 1, 1) a)) with h | h
    · exact go _ e2 e3 e4 e5 h
    · refine go (cb 0 (0, 0, 0) (-1) (cr (1, 1, 1) a)) (by rw [sm_cb, e2]; simp) ?_ (by rw [neg, e4]; rfl) (fun g hg h => by rw [neg, e5 g hg h]; rfl) (by rw [neg, neg, neg]; exact h)
      intro hc
      apply e3
      simp only [cb, Prod.mk.injEq] at hc
      refine Prod.ext ?_ (Prod.ext ?_ ?_) <;> dsimp only <;> omega
/-- from every row of chances one comes to a corner that is as good, within what q's lines bound -/
theorem cn {S : List V3} {q : V3} (o1 o2 o3 : V3) (hE : hasE S) (hq : nn3 q) (hs : 0 < sm3 q) : ∃ p, act S p ∧ sg S q p ∧ btr o1 o2 o3 q p := by
  by_cases hA : ∃ a, a ∈ S ∧ a ≠ (0, 0, 0) ∧ dt a q = 0
  · obtain ⟨a, ha, hz, h0⟩ := hA
    exact cn1 o1 o2 o3 hE hq hs ha hz h0
  · have hact : ∀ g ∈ S, dt g q = 0 → g = (0, 0, 0) := by
      intro g hg h
      by_cases c : g = (0, 0, 0)
      · exact c
      · exact absurd ⟨g, hg, c, h⟩ hA
    have go : ∀ d : V3, sm3 d = 0 → d ≠ (0, 0, 0) → ln (dt o1 d) (dt o2 d) (dt o3 d) → ∃ p, act S p ∧ sg S q p ∧ btr o1 o2 o3 q p := by
      intro d hd hne hl
      obtain ⟨b, hb, hbq, x, y, hx, hy, hb0, hsg⟩ := mv hE hq hd hne (fun g hg h => by rw [hact g hg h]; simp [dt])
      have hq' := sg_nn hE hq hsg
      have hs' : 0 < sm3 (cb x q y d) := by rw [sm_cb, hd]; have := Int.mul_pos hx hs; omega
      obtain ⟨p, p1, p2, p3⟩ := cn1 o1 o2 o3 hE hq' hs' hb (fun h => hbq (by rw [h]; simp [dt])) hb0
      exact ⟨p, p1, fun g hg => ⟨fun h => (p2 g hg).1 ((hsg g hg).1 h), fun h => (p2 g hg).2 ((hsg g hg).2 h)⟩, btr_tr (btr_of hx hy hd hl) p3⟩
    rcases ln_or (dt o1 (1, -1, 0)) (dt o2 (1, -1, 0)) (dt o3 (1, -1, 0)) with h | h
    · exact go (1, -1, 0) rfl (by decide) h
    · refine go (-1, 1, 0) rfl (by decide) ?_
      have e : ∀ g : V3, dt g (-1, 1, 0) = - dt g (1, -1, 0) := by intro g; simp only [dt]; grind
      rw [e, e, e]; exact h
