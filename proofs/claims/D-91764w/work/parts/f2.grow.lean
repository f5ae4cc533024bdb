/-! MEMORIES THAT GROW -/
/-- μ' is μ with cells more -/
def tE (μ μ' : tm_M) : Prop := tm_z μ ≤ tm_z μ' ∧ ∀ a, a < tm_z μ → tm_k μ' a = tm_k μ a ∧ tm_n μ' a = tm_n μ a ∧ ∀ j, tm_v μ' a j = tm_v μ a j
theorem tE.rf (μ : tm_M) : tE μ μ := ⟨Int.le_refl _, fun _ _ => ⟨rfl, rfl, fun _ => rfl⟩⟩
theorem tE.a (μ : tm_M) (k : Nat) (n : Int) : tE μ (tm_a μ k n) := by
  refine ⟨by rw [tm_za]; omega, fun a ha => ?_⟩
  have h : a ≠ tm_z μ := by omega
  refine ⟨by rw [tm_ka, if_neg h], by rw [tm_na, if_neg h], fun j => by rw [tm_va, if_neg h]⟩
theorem tE.tr {μ μ' μ'' : tm_M} (h : tE μ μ') (h' : tE μ' μ'') : tE μ μ'' := by
  refine ⟨Int.le_trans h.1 h'.1, fun a ha => ?_⟩
  have h1 := h.2 a ha
  have h2 := h'.2 a (Int.lt_of_lt_of_le ha h.1)
  exact ⟨h2.1.trans h1.1, h2.2.1.trans h1.2.1, fun j => (h2.2.2 j).trans (h1.2.2 j)⟩
/-- writing in a new cell -/
theorem tE.w {μ μ' : tm_M} (h : tE μ μ') {a : Int} (ha : tm_z μ ≤ a) (j x : Int) : tE μ (tm_w μ' a j x) := by
  refine ⟨h.1, fun b hb => ?_⟩
  have h1 := h.2 b hb
  refine ⟨h1.1, h1.2.1, fun i => ?_⟩
  rw [tm_vw, if_neg (by omega)]
  exact h1.2.2 i
theorem tw_ref {μ : tm_M} (h : tw_f μ) {a : Int} (h1 : 1 ≤ a) (h2 : a < tm_z μ) {k : Nat} (hk : tm_k μ a = k) (j : Int) (ht : tt_t k j.toNat = 2) : 0 ≤ tm_v μ a j ∧ tm_v μ a j < tm_z μ := by
  have := (h.2 a h1 h2).2 j
  rw [hk, ht] at this
  exact this
/-- what a contract may suppose of the memory that it begins in, and knows of the one that it ends in -/
theorem tC_wf {M : tM} {d mc ms : Nat} {as : tSt} {μ : tm_M} {Q : tQ} (h : tw_f μ → tC M d mc ms as μ Q) : tC M d mc ms as μ Q := by
  intro l D A sp ad ca hfl p e ha hc hk s m args below hf happ hP hK
  exact h hP.2.2.1.1 l D A sp ad ca hfl p e ha hc hk s m args below hf happ hP hK
theorem tC_wf' {M : tM} {d mc ms : Nat} {as : tSt} {μ : tm_M} {Q : tQ} (h : tC M d mc ms as μ Q) : tC M d mc ms as μ (fun o μ' => tw_f μ' ∧ Q o μ') := by
  intro l D A sp ad ca hfl p e ha hc hk s m args below hf happ hP hK
  obtain ⟨n, o, h1, h2, h3, ⟨⟨oA, μ', ad', ca', q1, q2, q3, q4, q5⟩, h5⟩, h6⟩ := h l D A sp ad ca hfl p e ha hc hk s m args below hf happ hP hK
  exact ⟨n, o, h1, h2, h3, ⟨⟨oA, μ', ad', ca', q1, q2, q3, q4, q4.1, q5⟩, h5⟩, h6⟩
section RCL
variable {W : Int → Int → Prop} {M' : tM} {as : tSt} {μ : tm_M} {d d' mc ms nc ns : Nat}
/-- a call of a method that makes nothing and throws nothing -/
theorem rcl_I {K : Int → tm_M → Prop} {A : Int → tm_M → Nat → Nat → Prop} {B : Int → tm_M → Nat → Nat → Prop} (hc : cI W M' d' as μ K) (hd : d' + 1 ≤ d) (h1 : nc ≤ mc) (h2 : ns ≤ ms) (h : ∀ r μ1, tFr W μ μ1 → K r μ1 → A r μ1 nc ns) :
    rcl M' as μ d mc ms nc ns (fun o μ1 nc1 ns1 => rk 0 o (fun r => A r μ1 nc1 ns1) (fun a => B a μ1 nc1 ns1)) :=
  ⟨d', 0, 0, hd, by omega, by omega, tC.mono hc fun o μ1 q => by
    obtain ⟨r, e, q1, q2⟩ := q
    exact Or.inl ⟨r, e, h r μ1 q1 q2⟩⟩
theorem rcl_L {K : Int → tm_M → Prop} {A : Int → tm_M → Nat → Nat → Prop} {B : Int → tm_M → Nat → Nat → Prop} (hc : cL W M' d' as μ K) (hd : d' + 1 ≤ d) (h1 : nc ≤ mc) (h2 : ns ≤ ms) (h : ∀ r μ1, tFr W μ μ1 → K r μ1 → A r μ1 nc ns) :
    rcl M' as μ d mc ms nc ns (fun o μ1 nc1 ns1 => rk 1 o (fun r => A r μ1 nc1 ns1) (fun a => B a μ1 nc1 ns1)) :=
  ⟨d', 0, 0, hd, by omega, by omega, tC.mono hc fun o μ1 q => by
    obtain ⟨r, e, q1, q2⟩ := q
    exact Or.inl ⟨r, e, h r μ1 q1 q2⟩⟩
theorem rcl_R {K : Int → tm_M → Prop} {A : Int → tm_M → Nat → Nat → Prop} {B : Int → tm_M → Nat → Nat → Prop} (hc : cR W M' d' as μ K) (hd : d' + 1 ≤ d) (h1 : nc ≤ mc) (h2 : ns ≤ ms) (h : ∀ r μ1, tFr W μ μ1 → K r μ1 → A r μ1 nc ns) :
    rcl M' as μ d mc ms nc ns (fun o μ1 nc1 ns1 => rk 2 o (fun r => A r μ1 nc1 ns1) (fun a => B a μ1 nc1 ns1)) :=
  ⟨d', 0, 0, hd, by omega, by omega, tC.mono hc fun o μ1 q => by
    obtain ⟨r, e, q1, q2⟩ := q
    exact Or.inl ⟨r, e, h r μ1 q1 q2⟩⟩
theorem rcl_V {K : tm_M → Prop} {A : tm_M → Nat → Nat → Prop} {B : Int → tm_M → Nat → Nat → Prop} (hc : cV W M' d' as μ K) (hd : d' + 1 ≤ d) (h1 : nc ≤ mc) (h2 : ns ≤ ms) (h : ∀ μ1, tFr W μ μ1 → K μ1 → A μ1 nc ns) :
    rcl M' as μ d mc ms nc ns (fun o μ1 nc1 ns1 => rkV o (A μ1 nc1 ns1) (fun a => B a μ1 nc1 ns1)) :=
  ⟨d', 0, 0, hd, by omega, by omega, tC.mono hc fun o μ1 q => Or.inl ⟨q.1, h μ1 q.2.1 q.2.2⟩⟩
/-- a call of any method -/
theorem rcl_of {mc' ms' : Nat} {Q : tQ} {P : tOc → tm_M → Nat → Nat → Prop} (hc : tC M' d' mc' ms' as μ Q) (hd : d' + 1 ≤ d) (h1 : nc + mc' ≤ mc) (h2 : ns + ms' ≤ ms) (h : ∀ o μ1, Q o μ1 → P o μ1 (nc + mc') (ns + ms')) : rcl M' as μ d mc ms nc ns P :=
  ⟨d', mc', ms', hd, h1, h2, hc.mono h⟩
end RCL
/-! TRAYS: make, get, set -/
section TRAYM
variable {d : Nat} {μ : tm_M} {t s n k v : Int}
theorem sk_tr (hs : tS μ) (t0 : 0 ≤ t) (t4 : t < 4) : 1 ≤ 61 + t ∧ tm_k μ (61 + t) = 5 := ⟨by omega, sak_2 hs t0 t4⟩
theorem sf_tr (t0 : 0 ≤ t) (t4 : t < 4) : tfr (61 + t) := by unfold tfr; omega
def q_make (μ : tm_M) (t s n : Int) : tQ := fun o μ1 => (n < 0 ∧ o = .inr (tm_z μ) ∧ μ1 = tm_a μ 12 0) ∨ (0 ≤ n ∧ o = .inl none ∧ μ1 = tm_w (tm_w (tm_a μ (yk s) n) (61 + t) 0 (tm_z μ)) (61 + t) 1 s)
theorem pX5_make (hs : tS μ) (t0 : 0 ≤ t) (t4 : t < 4) (s0 : 0 ≤ s) (s3 : s ≤ 3) (n64 : n ≤ 64) : tC mX5_make d 3 800 [(2, 61 + t), (0, s), (0, n)] μ (q_make μ t s n) := by
  refine tC_of rfl (Nat.le_of_ble_eq_true rfl) (rX5_make_0 hs ?_)
  have neg : ∀ pc, n < 0 → (0 + 3 ≤ 3 ∧ 0 + 800 ≤ 800) ∧ tT mX5_make d 3 800 (tq (q_make μ t s n) 3 800) pc [(0, 2, 61 + t), (1, 0, s), (2, 0, n)] (tm_z μ) (tm_a μ 12 0) (0 + 3) (0 + 800) := fun pc h => ⟨by decide, t_leave (fun x hx => by cases hx) (by decide) (by decide) (Or.inl ⟨h, rfl, rfl⟩)⟩
  have pos : ∀ kd, yk s = kd → 0 ≤ n → n ≤ 1000 ∧ (0 + 1 ≤ 3 ∧ 0 + n.toNat ≤ 800) ∧ ∀ μ1, μ1 = tm_a μ kd n → tS μ1 ∧ ∀ x, x = tm_z μ → (1 ≤ 61 + t ∧ tm_k μ1 (61 + t) = 5) ∧ ∀ μ2, μ2 = tm_w μ1 (61 + t) 0 x → tS μ2 ∧ (1 ≤ 61 + t ∧ tm_k μ2 (61 + t) = 5) ∧ ∀ μ3, μ3 = tm_w μ2 (61 + t) 1 s → tS μ3 ∧ (0 + 1 ≤ 3 ∧ 0 + n.toNat ≤ 800) ∧ q_make μ t s n (.inl none) μ3 := by
    rintro kd rfl h0
    refine ⟨by omega, ⟨by decide, by omega⟩, ?_⟩
    rintro μ1 rfl
    have h1 := tS_a hs (yk s) n
    refine ⟨h1, ?_⟩
    rintro x rfl
    refine ⟨sk_tr h1 t0 t4, ?_⟩
    rintro μ2 rfl
    have h2 := tS_w h1 (sf_tr t0 t4) 0 (tm_z μ)
    refine ⟨h2, sk_tr h2 t0 t4, ?_⟩
    rintro μ3 rfl
    exact ⟨tS_w h2 (sf_tr t0 t4) 1 s, ⟨by decide, by omega⟩, Or.inr ⟨h0, rfl, rfl⟩⟩
  refine ⟨fun c0 => ⟨fun c1 => ⟨fun c2 => ⟨neg _, pos 21 ?_⟩, fun c2 => ⟨neg _, pos 20 ?_⟩⟩, fun c1 => ⟨neg _, pos 23 ?_⟩⟩, fun c0 => ⟨neg _, pos 22 ?_⟩⟩
  · unfold yk; rw [if_neg c0, if_neg c1, if_neg c2]
  · unfold yk; rw [if_neg c0, if_neg c1, if_pos c2]
  · unfold yk; rw [if_neg c0, if_pos c1]
  · unfold yk; rw [if_pos c0]
/-- a tray whose row is none or is of the tray's sort -/
def yT (μ : tm_M) (t : Int) : Prop := 0 ≤ t ∧ t < 4 ∧ (0 ≤ tm_v μ (61 + t) 1 ∧ tm_v μ (61 + t) 1 ≤ 3) ∧ (tm_v μ (61 + t) 0 = 0 ∨ ob μ (tm_v μ (61 + t) 0) (yk (tm_v μ (61 + t) 1)))
def q_get (μ : tm_M) (t k : Int) : tQ := fun o μ1 => (c_Y μ t = 0 ∧ o = .inr (tm_z μ) ∧ μ1 = tm_a μ 13 0) ∨ (1 ≤ c_Y μ t ∧ (k < 0 ∨ tm_n μ (c_Y μ t) ≤ k) ∧ o = .inr (tm_z μ) ∧ μ1 = tm_a μ 14 0) ∨ (1 ≤ c_Y μ t ∧ (0 ≤ k ∧ k < tm_n μ (c_Y μ t)) ∧ o = .inl (some (1, tm_v μ (c_Y μ t) k)) ∧ μ1 = μ)
theorem pX5_getT (hs : tS μ) (hT : yT μ t) : tC mX5_get d 3 800 [(2, 61 + t), (0, k)] μ (q_get μ t k) := by
  obtain ⟨t0, t4, -, hr0⟩ := hT
  have hr : tm_v μ (61 + t) 0 = 0 ∨ (1 ≤ tm_v μ (61 + t) 0 ∧ tm_k μ (tm_v μ (61 + t) 0) = yk (tm_v μ (61 + t) 1)) := hr0.imp id (fun q => q.1)
  refine tC_of rfl (Nat.le_of_ble_eq_true rfl) (rX5_get_0 hs ⟨sk_tr hs t0 t4, ?_⟩)
  have nul : ∀ pc, tm_v μ (61 + t) 0 = 0 → (0 + 1 ≤ 3 ∧ 0 + 8 ≤ 800) ∧ tT mX5_get d 3 800 (tq (q_get μ t k) 3 800) pc [(0, 2, 61 + t), (1, 0, k)] (tm_z μ) (tm_a μ 13 0) (0 + 1) (0 + 8) := fun pc h => ⟨by decide, t_leave (fun x hx => by cases hx) (by decide) (by decide) (Or.inl ⟨h, rfl, rfl⟩)⟩
  have out : ∀ pc, k < 0 ∨ tm_n μ (tm_v μ (61 + t) 0) ≤ k → 1 ≤ tm_v μ (61 + t) 0 → (0 + 3 ≤ 3 ∧ 0 + 800 ≤ 800) ∧ tT mX5_get d 3 800 (tq (q_get μ t k) 3 800) pc [(0, 2, 61 + t), (1, 0, k)] (tm_z μ) (tm_a μ 14 0) (0 + 3) (0 + 800) := fun pc h h1 => ⟨by decide, t_leave (fun x hx => by cases hx) (by decide) (by decide) (Or.inr (Or.inl ⟨h1, h, rfl, rfl⟩))⟩
  have ins : 0 ≤ k ∧ k < tm_n μ (tm_v μ (61 + t) 0) → 1 ≤ tm_v μ (61 + t) 0 → (0 ≤ 3 ∧ 0 ≤ 800) ∧ q_get μ t k (.inl (some (1, tm_v μ (tm_v μ (61 + t) 0) k))) μ := fun h h1 => ⟨by decide, Or.inr (Or.inr ⟨h1, h, rfl, rfl⟩)⟩
  refine ⟨fun c0 => ⟨fun c1 => ⟨fun c2 => ?_, fun c2 => ?_⟩, fun c1 => ?_⟩, fun c0 => ?_⟩
  · have e : yk (tm_v μ (61 + t) 1) = 21 := by unfold yk; rw [if_neg c0, if_neg c1, if_neg c2]
    rw [e] at hr; exact ⟨hr, hr, nul _, out _, ins⟩
  · have e : yk (tm_v μ (61 + t) 1) = 20 := by unfold yk; rw [if_neg c0, if_neg c1, if_pos c2]
    rw [e] at hr; exact ⟨hr, hr, nul _, out _, ins⟩
  · have e : yk (tm_v μ (61 + t) 1) = 23 := by unfold yk; rw [if_neg c0, if_pos c1]
    rw [e] at hr; exact ⟨hr, hr, nul _, out _, ins⟩
  · have e : yk (tm_v μ (61 + t) 1) = 22 := by unfold yk; rw [if_pos c0]
    rw [e] at hr; exact ⟨hr, hr, nul _, out _, ins⟩
def q_set (μ : tm_M) (t k v : Int) : tQ := fun o μ1 => (c_Y μ t = 0 ∧ o = .inr (tm_z μ) ∧ μ1 = tm_a μ 13 0) ∨ (1 ≤ c_Y μ t ∧ (k < 0 ∨ tm_n μ (c_Y μ t) ≤ k) ∧ o = .inr (tm_z μ) ∧ μ1 = tm_a μ 14 0) ∨ (1 ≤ c_Y μ t ∧ (0 ≤ k ∧ k < tm_n μ (c_Y μ t)) ∧ o = .inl none ∧ μ1 = tm_w μ (c_Y μ t) k (y_cut (tm_v μ (61 + t) 1) v))
theorem dy_tfr {a : Int} (h : dyA a) : tfr a := by unfold dyA at h; unfold tfr; omega
theorem pX5_set (hs : tS μ) (hT : yT μ t) : tC mX5_set d 3 800 [(2, 61 + t), (0, k), (1, v)] μ (q_set μ t k v) := by
  obtain ⟨t0, t4, -, hr0⟩ := hT
  have hr : tm_v μ (61 + t) 0 = 0 ∨ (1 ≤ tm_v μ (61 + t) 0 ∧ tm_k μ (tm_v μ (61 + t) 0) = yk (tm_v μ (61 + t) 1)) := hr0.imp id (fun q => q.1)
  refine tC_of rfl (Nat.le_of_ble_eq_true rfl) (rX5_set_0 hs ⟨sk_tr hs t0 t4, ?_⟩)
  have nul : ∀ pc, tm_v μ (61 + t) 0 = 0 → (0 + 1 ≤ 3 ∧ 0 + 8 ≤ 800) ∧ tT mX5_set d 3 800 (tq (q_set μ t k v) 3 800) pc [(0, 2, 61 + t), (1, 0, k), (2, 1, v)] (tm_z μ) (tm_a μ 13 0) (0 + 1) (0 + 8) := fun pc h => ⟨by decide, t_leave (fun x hx => by cases hx) (by decide) (by decide) (Or.inl ⟨h, rfl, rfl⟩)⟩
  have out : ∀ pc, k < 0 ∨ tm_n μ (tm_v μ (61 + t) 0) ≤ k → 1 ≤ tm_v μ (61 + t) 0 → (0 + 3 ≤ 3 ∧ 0 + 800 ≤ 800) ∧ tT mX5_set d 3 800 (tq (q_set μ t k v) 3 800) pc [(0, 2, 61 + t), (1, 0, k), (2, 1, v)] (tm_z μ) (tm_a μ 14 0) (0 + 3) (0 + 800) := fun pc h h1 => ⟨by decide, t_leave (fun x hx => by cases hx) (by decide) (by decide) (Or.inr (Or.inl ⟨h1, h, rfl, rfl⟩))⟩
  have ins : ∀ x, y_cut (tm_v μ (61 + t) 1) v = x → 0 ≤ k ∧ k < tm_n μ (tm_v μ (61 + t) 0) → 1 ≤ tm_v μ (61 + t) 0 → ∀ μ1, μ1 = tm_w μ (tm_v μ (61 + t) 0) k x → tS μ1 ∧ (0 ≤ 3 ∧ 0 ≤ 800) ∧ q_set μ t k v (.inl none) μ1 := by
    rintro x rfl h h1 μ1 rfl
    refine ⟨tS_w hs ?_ k _, by decide, Or.inr (Or.inr ⟨h1, h, rfl, rfl⟩)⟩
    rcases hr0 with q | q
    · omega
    · exact dy_tfr q.2
  refine ⟨fun c0 => ⟨fun c1 => ⟨fun c2 => ?_, fun c2 => ?_⟩, fun c1 => ?_⟩, fun c0 => ?_⟩
  · have e : yk (tm_v μ (61 + t) 1) = 21 := by unfold yk; rw [if_neg c0, if_neg c1, if_neg c2]
    rw [e] at hr; exact ⟨hr, hr, nul _, out _, ins _ (by unfold y_cut; rw [if_neg c0, if_neg c1, if_neg c2])⟩
  · have e : yk (tm_v μ (61 + t) 1) = 20 := by unfold yk; rw [if_neg c0, if_neg c1, if_pos c2]
    rw [e] at hr; exact ⟨hr, hr, nul _, out _, ins _ (by unfold y_cut; rw [if_neg c0, if_neg c1, if_pos c2])⟩
  · have e : yk (tm_v μ (61 + t) 1) = 23 := by unfold yk; rw [if_neg c0, if_pos c1]
    rw [e] at hr; exact ⟨hr, hr, nul _, out _, ins _ (by unfold y_cut; rw [if_neg c0, if_pos c1])⟩
  · have e : yk (tm_v μ (61 + t) 1) = 22 := by unfold yk; rw [if_pos c0]
    rw [e] at hr; exact ⟨hr, hr, nul _, out _, ins _ (by unfold y_cut; rw [if_pos c0])⟩
/-- a frame with nothing in it -/
theorem tFr_eq {μ1 : tm_M} (h : tFr w0 μ μ1) : μ1 = μ := by
  obtain ⟨-, h1, h2, h3, h4⟩ := h
  obtain ⟨z1, k1, n1, v1⟩ := μ1
  obtain ⟨z, k, n, v⟩ := μ
  have e1 : z1 = z := h1
  have e2 : k1 = k := h2
  have e3 : n1 = n := h3
  have e4 : v1 = v := by
    funext a j
    exact h4 a j (by rintro (q | q) <;> cases q)
  rw [e1, e2, e3, e4]
end TRAYM
