/-! CONTRACTS of the component: what makes ways -/
section C0WY
variable {d mc ms nc ns : Nat} {μ ν : tm_M} {t n x r : Int}
def q_wi (μ : tm_M) (x r : Int) : tQ := fun o μ1 => o = .inl none ∧ μ1 = tm_w μ x 0 r
theorem pX9_init (hs : tS μ) (h1 : 1 ≤ x) (hk : tm_k μ x = 9 ∨ tm_k μ x = 10 ∨ tm_k μ x = 11) (hx : tfr x) : tC mX9_init d 0 0 [(2, x), (2, r)] μ (q_wi μ x r) := by
  rcases hk with q | q | q
  · exact tC_of rfl (Nat.le_of_ble_eq_true rfl) (rX9_init_0_9 hs ⟨h1, ⟨h1, q⟩, fun μ1 e => ⟨by rw [e]; exact tS_w hs hx _ _, by decide, rfl, e⟩⟩)
  · exact tC_of rfl (Nat.le_of_ble_eq_true rfl) (rX9_init_0_10 hs ⟨h1, ⟨h1, q⟩, fun μ1 e => ⟨by rw [e]; exact tS_w hs hx _ _, by decide, rfl, e⟩⟩)
  · exact tC_of rfl (Nat.le_of_ble_eq_true rfl) (rX9_init_0_11 hs ⟨h1, ⟨h1, q⟩, fun μ1 e => ⟨by rw [e]; exact tS_w hs hx _ _, by decide, rfl, e⟩⟩)
theorem pX10_init (hd : 1 ≤ d) (hs : tS μ) (h1 : 1 ≤ x) (hk : tm_k μ x = 9 ∨ tm_k μ x = 10 ∨ tm_k μ x = 11) (hx : tfr x) : tC mX10_init d 0 0 [(2, x), (2, r)] μ (q_wi μ x r) :=
  tC_of rfl (Nat.le_of_ble_eq_true rfl) (rX10_init_0 hs ⟨h1, rcl_of (d' := d - 1) (pX9_init hs h1 hk hx) (by omega) (by decide) (by decide) (fun o μ1 q => Or.inl ⟨q.1, by rw [q.2]; exact tS_w hs hx _ _, by decide, rfl, q.2⟩)⟩)
theorem pX11_init (hd : 2 ≤ d) (hs : tS μ) (h1 : 1 ≤ x) (hk : tm_k μ x = 9 ∨ tm_k μ x = 10 ∨ tm_k μ x = 11) (hx : tfr x) : tC mX11_init d 0 0 [(2, x), (2, r)] μ (q_wi μ x r) :=
  tC_of rfl (Nat.le_of_ble_eq_true rfl) (rX11_init_0 hs ⟨h1, rcl_of (d' := d - 1) (pX10_init (by omega) hs h1 hk hx) (by omega) (by decide) (by decide) (fun o μ1 q => Or.inl ⟨q.1, by rw [q.2]; exact tS_w hs hx _ _, by decide, rfl, q.2⟩)⟩)
theorem pX12_init (hd : 1 ≤ d) (hs : tS μ) (h1 : 1 ≤ x) (hk : tm_k μ x = 9 ∨ tm_k μ x = 10 ∨ tm_k μ x = 11) (hx : tfr x) : tC mX12_init d 0 0 [(2, x), (2, r)] μ (q_wi μ x r) :=
  tC_of rfl (Nat.le_of_ble_eq_true rfl) (rX12_init_0 hs ⟨h1, rcl_of (d' := d - 1) (pX9_init hs h1 hk hx) (by omega) (by decide) (by decide) (fun o μ1 q => Or.inl ⟨q.1, by rw [q.2]; exact tS_w hs hx _ _, by decide, rfl, q.2⟩)⟩)
/-- a new row of n ints -/
def newR (μ ν : tm_M) (t n i : Int) (m : tm_M) : Prop := tE μ m ∧ tS m ∧ tm_z m = tm_z μ + 1 ∧ tm_k m (tm_z μ) = 20 ∧ tm_n m (tm_z μ) = n ∧ ∀ k, 0 ≤ k → k < i → tm_v m (tm_z μ) k = w32 (tm_v ν 68 (64 * t + k))
theorem z_tfr (hs : tS μ) : tfr (tm_z μ) := by have := hs.2.2; unfold tfr; omega
theorem pX0_rowOf (hd : 1 ≤ d) (hw : tw_f μ) (hs : tS μ) (hY : JY μ ν) (t0 : 0 ≤ t) (t4 : t < 4) (n0 : 0 ≤ n) (n24 : n ≤ 24) (hn : n ≤ tm_v ν 67 t) : tC mX0_rowOf d 1 24 [(2, 1), (0, t), (0, n)] μ (fun o μ1 => o = .inl (some (2, tm_z μ)) ∧ newR μ ν t n n μ1) := by
  have hz := hs.2.2
  have loop : ∀ (g : Nat) (i : Int) (m : tm_M), (n - i).toNat = g → 0 ≤ i → i ≤ n → newR μ ν t n i m → tH mX0_rowOf d 1 24 (tq (fun o μ1 => o = .inl (some (2, tm_z μ)) ∧ newR μ ν t n n μ1) 1 24) 7 [(0, 2, 1), (1, 0, t), (2, 0, n), (3, 2, tm_z μ), (4, 0, i)] [] m (0 + 1) (0 + n.toNat) := by
    intro g
    induction g with
    | zero =>
      intro i m hg i0 i1 hm
      refine rX0_rowOf_7 hm.2.1 ⟨fun _ => ⟨⟨by omega, by omega⟩, rfl, ?_⟩, fun c => by omega⟩
      have : i = n := by omega
      rw [this] at hm
      exact hm
    | succ g ih =>
      intro i m hg i0 i1 hm
      obtain ⟨a1, a2, a3, a4, a5, a6⟩ := id hm
      refine rX0_rowOf_7 a2 ⟨fun _ => by omega, fun c => ⟨⟨t0, t4⟩, ?_⟩⟩
      refine rcl_L (d' := 0) (JY.get (JY_E hw hs hY a1) a2 t0 t4 i0 (by omega)) hd (by omega) (by omega) (fun r5 m5 f q => ?_)
      rw [tFr_eq f]
      refine ⟨a2, ⟨by omega, a4⟩, ⟨i0, by rw [a5]; exact c⟩, ?_⟩
      rintro m8 rfl
      have h8 : tS (tm_w m (tm_z μ) i (w32 r5)) := tS_w a2 (z_tfr hs) _ _
      refine ⟨h8, ?_⟩
      rw [w32_id (by omega) (by omega)]
      refine ih (i + 1) _ (by omega) (by omega) (by omega) ⟨a1.w (Int.le_refl _) _ _, h8, a3, a4, a5, fun k k0 k1 => ?_⟩
      rw [tm_vw]
      by_cases e : k = i
      · rw [if_pos ⟨rfl, e⟩, q, e]
      · rw [if_neg (by omega)]
        exact a6 k k0 (by omega)
  refine tC_of rfl (Nat.le_of_ble_eq_true rfl) (rX0_rowOf_0 hs ⟨fun c => by omega, fun _ => ⟨by omega, ⟨by decide, by omega⟩, ?_⟩⟩)
  rintro m rfl
  refine ⟨tS_a hs _ _, ?_⟩
  rintro x rfl
  exact loop _ 0 _ rfl (by decide) n0 ⟨tE.a _ _ _, tS_a hs _ _, rfl, by rw [tm_ka, if_pos rfl], by rw [tm_na, if_pos rfl], fun k k0 k1 => by omega⟩
theorem pX0_adds (hd : 1 ≤ d) (hs : tS μ) (h9 : 0 ≤ tm_v μ 1 9 ∧ tm_v μ 1 9 < 12) (h1 : 1 ≤ x) (hk : tm_k μ x = 9 ∨ tm_k μ x = 10 ∨ tm_k μ x = 11) : tC mX0_adds d 0 0 [(2, 1), (2, x)] μ (fun o μ1 => o = .inl (some (0, tm_v μ 1 9)) ∧ μ1 = tm_w (tm_w (tm_w μ 6 (tm_v μ 1 9) x) 1 9 (tm_v μ 1 9 + 1)) 1 10 0) := by
  refine tC_of rfl (Nat.le_of_ble_eq_true rfl) (rX0_adds_0 hs ⟨h9, ⟨h1, hk⟩, ?_⟩)
  rintro μ3 rfl
  have s3 : tS (tm_w μ 6 (tm_v μ 1 9) x) := tS_w hs sf_6 _ _
  refine ⟨s3, ?_⟩
  have e3 : tm_v (tm_w μ 6 (tm_v μ 1 9) x) 1 9 = tm_v μ 1 9 := by rw [tm_vw, if_neg (by omega)]
  rw [e3, w32_id (by omega) (by omega)]
  rintro μ4 rfl
  have s4 : tS (tm_w (tm_w μ 6 (tm_v μ 1 9) x) 1 9 (tm_v μ 1 9 + 1)) := tS_wj s3 _ (by decide)
  have e4 : tm_v (tm_w (tm_w μ 6 (tm_v μ 1 9) x) 1 9 (tm_v μ 1 9 + 1)) 1 9 = tm_v μ 1 9 + 1 := by rw [tm_vw, if_pos ⟨rfl, rfl⟩]
  rw [e4, show tm_v μ 1 9 + 1 - 1 = tm_v μ 1 9 by omega, w32_id (by omega) (by omega)]
  refine ⟨s4, rcl_I (d' := 0) (pX0_gives s4) hd (by decide) (by decide) (fun r5 μ5 _ q => ?_)⟩
  obtain ⟨rfl, rfl⟩ := q
  exact ⟨tS_10 s4 0, by decide, rfl, rfl⟩
theorem r_none0 {Q : tQ} {B : Int → tm_M → Nat → Nat → Prop} (hs : tS μ) (hd : 1 ≤ d) (h1 : nc ≤ mc) (h2 : ns ≤ ms) (hq : Q (.inl (some (0, -1))) (tm_w μ 1 10 x)) :
    rcl mX0_none [(2, 1), (0, x)] μ d mc ms nc ns (fun o μ1 nc1 ns1 => rk 0 o (fun r => tS μ1 ∧ ((nc1 ≤ mc ∧ ns1 ≤ ms) ∧ (Q (.inl (some (0, r))) μ1))) (fun a => B a μ1 nc1 ns1)) := by
  refine rcl_I (d' := 0) (A := fun r μ1 nc1 ns1 => tS μ1 ∧ ((nc1 ≤ mc ∧ ns1 ≤ ms) ∧ (Q (.inl (some (0, r))) μ1))) (pX0_none hs) hd h1 h2 (fun r μ1 _ q => ?_)
  obtain ⟨rfl, rfl⟩ := q
  exact ⟨tS_10 hs x, ⟨h1, h2⟩, hq⟩
/-- the memory with one way more, of kind kd, at wa -/
def newW (μ ν : tm_M) (t n : Int) (kd : Nat) (wa : Int) (μa : tm_M) : Prop := tE μ μa ∧ tS μa ∧ (tm_z μ ≤ wa ∧ tm_z μ ≤ tm_v μa wa 0) ∧ (tm_k μa (tm_v μa wa 0) = 20 ∧ tm_n μa (tm_v μa wa 0) = n ∧ ∀ k, 0 ≤ k → k < n → tm_v μa (tm_v μa wa 0) k = w32 (tm_v ν 68 (64 * t + k))) ∧ tm_k μa wa = kd
def q_way (st : Int) (μ ν : tm_M) (t n : Int) (kd : Nat) : tQ := fun o μ1 => o = .inl (some (0, if st = 0 then tm_v ν 65 43 else -1)) ∧ (st ≠ 0 → μ1 = tm_w μ 1 10 st) ∧ (st = 0 → ∃ μa wa, newW μ ν t n kd wa μa ∧ μ1 = tm_w (tm_w (tm_w μa 6 (tm_v ν 65 43) wa) 1 9 (tm_v ν 65 43 + 1)) 1 10 0)
theorem newW_of {m : tm_M} {kd : Nat} (hs : tS μ) (h : newR μ ν t n n m) : newW μ ν t n kd (tm_z m) (tm_w (tm_a m kd 1) (tm_z m) 0 (tm_z μ)) := by
  obtain ⟨a1, a2, a3, a4, a5, a6⟩ := h
  have hz := hs.2.2
  have ne : tm_z μ ≠ tm_z m := by omega
  have e0 : tm_v (tm_w (tm_a m kd 1) (tm_z m) 0 (tm_z μ)) (tm_z m) 0 = tm_z μ := by rw [tm_vw, if_pos ⟨rfl, rfl⟩]
  refine ⟨(a1.tr (tE.a _ _ _)).w (by omega) _ _, tS_w (tS_a a2 _ _) (by unfold tfr; omega) _ _, ⟨by omega, by omega⟩, ?_, ?_⟩
  · rw [e0]
    refine ⟨?_, ?_, fun k k0 k1 => ?_⟩
    · show tm_k (tm_a m kd 1) (tm_z μ) = 20
      rw [tm_ka, if_neg ne]; exact a4
    · show tm_n (tm_a m kd 1) (tm_z μ) = n
      rw [tm_na, if_neg ne]; exact a5
    · rw [tm_vw, if_neg (by omega), tm_va, if_neg ne]; exact a6 k k0 k1
  · show tm_k (tm_a m kd 1) (tm_z m) = kd
    rw [tm_ka, if_pos rfl]
theorem newW_of2 {m : tm_M} {kd : Nat} (hs : tS μ) (h : newR (tm_a μ kd 1) ν t n n m) : newW μ ν t n kd (tm_z μ) (tm_w m (tm_z μ) 0 (tm_z μ + 1)) := by
  obtain ⟨a1, a2, a3, a4, a5, a6⟩ := h
  rw [tm_za] at a3 a4 a5 a6
  have hz := hs.2.2
  have e0 : tm_v (tm_w m (tm_z μ) 0 (tm_z μ + 1)) (tm_z μ) 0 = tm_z μ + 1 := by rw [tm_vw, if_pos ⟨rfl, rfl⟩]
  refine ⟨((tE.a _ _ _).tr a1).w (by omega) _ _, tS_w a2 (by unfold tfr; omega) _ _, ⟨by omega, by omega⟩, ?_, ?_⟩
  · rw [e0]
    exact ⟨a4, a5, fun k k0 k1 => by rw [tm_vw, if_neg (by omega)]; exact a6 k k0 k1⟩
  · show tm_k m (tm_z μ) = kd
    rw [a1.k (by rw [tm_za]; omega), tm_ka, if_pos rfl]
theorem s_way_1 {hi : Int} (h : ¬ (0 ≤ t ∧ t < 4)) : s_way ν t n hi = 1 := by unfold s_way; rw [y_tr1 h]; rfl
theorem s_way_3 {hi : Int} (t0 : 0 ≤ t) (t4 : t < 4) (c : tm_v ν 67 t < 0) : s_way ν t n hi = 3 := by unfold s_way; rw [y_tr3 t0 t4 c]; rfl
theorem s_way_5 {hi : Int} (t0 : 0 ≤ t) (t4 : t < 4) (c : 0 ≤ tm_v ν 67 t) (h : ¬ (1 ≤ n ∧ n ≤ 24)) : s_way ν t n hi = 5 := by unfold s_way; rw [y_tr0 t0 t4 c, if_neg (by decide), if_pos h]
theorem s_way_4 {hi : Int} (t0 : 0 ≤ t) (t4 : t < 4) (c : 0 ≤ tm_v ν 67 t) (h : 1 ≤ n ∧ n ≤ 24) (h1 : tm_v ν 67 t < n) : s_way ν t n hi = 4 := by unfold s_way; rw [y_tr0 t0 t4 c, if_neg (by decide), if_neg (fun q => q h), if_pos h1]
theorem s_way_f {hi : Int} (t0 : 0 ≤ t) (t4 : t < 4) (c : 0 ≤ tm_v ν 67 t) (h : 1 ≤ n ∧ n ≤ 24) (h1 : n ≤ tm_v ν 67 t) (h2 : ¬ y_from ν t n hi) : s_way ν t n hi = 5 := by
  unfold s_way; rw [y_tr0 t0 t4 c, if_neg (by decide), if_neg (fun q => q h), if_neg (by omega), if_pos (by simpa using h2)]
theorem s_way_7 {hi : Int} (t0 : 0 ≤ t) (t4 : t < 4) (c : 0 ≤ tm_v ν 67 t) (h : 1 ≤ n ∧ n ≤ 24) (h1 : n ≤ tm_v ν 67 t) (h2 : y_from ν t n hi) : s_way ν t n hi = if tm_v ν 65 43 = 12 then 7 else 0 := by
  unfold s_way; rw [y_tr0 t0 t4 c, if_neg (by decide), if_neg (fun q => q h), if_neg (by omega), if_neg (by simpa using h2)]
theorem q_way_no {st y : Int} {kd : Nat} (h : st = y) (hy : y ≠ 0) : q_way st μ ν t n kd (.inl (some (0, -1))) (tm_w μ 1 10 y) := by
  subst h
  exact ⟨by rw [if_neg hy], fun _ => rfl, fun q => absurd q hy⟩
/-- behind the checks -/
theorem r_add {Q : tQ} {B : Int → tm_M → Nat → Nat → Prop} {m : tm_M} {kd : Nat} {st wa : Int} (hd : 2 ≤ d) (hs : tS μ) (hV : JV μ ν) (h12 : tm_v ν 65 43 ≠ 12) (hst : st = 0) (hkd : kd = 9 ∨ kd = 10 ∨ kd = 11) (h1 : nc ≤ mc) (h2 : ns ≤ ms) (hm : newW μ ν t n kd wa m)
    (hQ : Q = q_way st μ ν t n kd) : rcl mX0_adds [(2, 1), (2, wa)] m d mc ms nc ns (fun o μ1 nc1 ns1 => rk 0 o (fun r => tS μ1 ∧ ((nc1 ≤ mc ∧ ns1 ≤ ms) ∧ (Q (.inl (some (0, r))) μ1))) (fun a => B a μ1 nc1 ns1)) := by
  obtain ⟨a1, a2, a3, a4, a5⟩ := id hm
  have hz := hs.2.2
  have e9 : tm_v m 1 9 = tm_v ν 65 43 := by rw [a1.v (hs.z (by decide))]; exact hV.2.1
  have hr := hV.1.1
  refine rcl_of (d' := d - 1) (pX0_adds (x := wa) (by omega) a2 (by rw [e9]; omega) (by omega) (by rw [a5]; exact hkd)) (by omega) (by omega) (by omega) (fun o μ1 q => ?_)
  obtain ⟨rfl, rfl⟩ := q
  rw [e9]
  refine Or.inl ⟨_, rfl, tS_10 (tS_wj (tS_w a2 sf_6 _ _) _ (by decide)) 0, ⟨h1, h2⟩, ?_⟩
  rw [hQ]
  exact ⟨by rw [if_pos hst], fun q => absurd hst q, fun _ => ⟨m, wa, hm, rfl⟩⟩
theorem k_many {A : Int → tm_M → Nat → Nat → Prop} {B : Int → tm_M → Nat → Nat → Prop} (hs : tS μ) (hY : JY μ ν) (t0 : 0 ≤ t) (t4 : t < 4) (c : 0 ≤ tm_v ν 67 t) (hd : 1 ≤ d) (h1 : nc ≤ mc) (h2 : ns ≤ ms) (hq : A (tm_v ν 67 t) μ nc ns) :
    rcl mX5_many [(2, 61 + t)] μ d mc ms nc ns (fun o μ1 nc1 ns1 => rk 0 o (fun r => A r μ1 nc1 ns1) (fun a => B a μ1 nc1 ns1)) := by
  refine rcl_I (d' := 0) (JY.many hY hs t0 t4 c) hd h1 h2 (fun r μ1 f q => ?_)
  rw [tFr_eq f, q]
  exact hq
theorem k_from {A : Int → tm_M → Nat → Nat → Prop} {B : Int → tm_M → Nat → Nat → Prop} {hi : Int} (hs : tS μ) (hJ : JU μ ν) (hY : JY μ ν) (t0 : 0 ≤ t) (t4 : t < 4) (hn : n ≤ tm_v ν 67 t) (n0 : 0 ≤ n) (hd : 2 ≤ d) (h1 : nc ≤ mc) (h2 : ns ≤ ms) (hq1 : y_from ν t n hi → A 1 μ nc ns) (hq0 : ¬ y_from ν t n hi → A 0 μ nc ns) :
    rcl mX0_areFrom [(2, 1), (0, t), (0, n), (1, 0), (1, hi)] μ d mc ms nc ns (fun o μ1 nc1 ns1 => rk 0 o (fun r => A r μ1 nc1 ns1) (fun a => B a μ1 nc1 ns1)) := by
  refine rcl_I (d' := d - 1) (pX0_areFrom0 (by omega) hs hJ hY t0 t4 hn n0) (by omega) h1 h2 (fun r μ1 f q => ?_)
  rw [tFr_eq f]
  rcases q with ⟨rfl, q⟩ | ⟨rfl, q⟩
  · exact hq1 q
  · exact hq0 q
theorem pX0_clock {g : Int} (hd : 4 ≤ d) (hs : tS μ) (hJ : JU μ ν) (hV : JV μ ν) (hY : JY μ ν) : tC mX0_clock d 2 25 [(2, 1), (0, t), (0, n), (0, g)] μ (q_way (s_way ν t n 4) μ ν t n (if g = 0 then 9 else 10)) := by
  refine tC_wf fun hw => ?_
  have hz := hs.2.2
  refine tC_of rfl (Nat.le_of_ble_eq_true rfl) (rX0_clock_0 hs ?_)
  refine r_isTray (A := fun r μ1 nc1 ns1 => tS μ1 ∧ _) hs (by omega) (by decide) (by decide) ⟨hs, fun c => ?_, fun c => r_none0 hs (by omega) (by decide) (by decide) (q_way_no (s_way_1 (b2i_0.mp c)) (by decide))⟩
  have ht := b2i_1.mp c
  obtain ⟨t0, t4⟩ := id ht
  refine ⟨ht, fun c1 => ?_, fun c1 => r_none0 hs (by omega) (by decide) (by decide) (q_way_no (s_way_3 t0 t4 ?_) (by decide))⟩
  · have hn : 0 ≤ tm_v ν 67 t := by
      by_cases q : tm_v ν 67 t < 0
      · have := hY.no t0 t4 q; unfold c_Y at this; omega
      · omega
    refine ⟨fun c2 => r_none0 hs (by omega) (by decide) (by decide) (q_way_no (s_way_5 t0 t4 hn (by omega)) (by decide)), fun c2 => ⟨fun c3 => ⟨ht, ?_⟩, fun c3 => r_none0 hs (by omega) (by decide) (by decide) (q_way_no (s_way_5 t0 t4 hn (by omega)) (by decide))⟩⟩
    refine k_many (A := fun r μ1 nc1 ns1 => tS μ1 ∧ _) hs hY t0 t4 hn (by omega) (by decide) (by decide) ⟨hs, fun c4 => ?_, fun c4 => r_none0 hs (by omega) (by decide) (by decide) (q_way_no (s_way_4 t0 t4 hn ⟨c2, c3⟩ c4) (by decide))⟩
    refine k_from (A := fun r μ1 nc1 ns1 => tS μ1 ∧ _) hs hJ hY t0 t4 c4 (by omega) (by omega) (by decide) (by decide) (fun c5 => ⟨hs, fun _ => ?_, fun q => absurd q (by decide)⟩) (fun c5 => ⟨hs, fun q => absurd rfl q, fun _ => r_none0 hs (by omega) (by decide) (by decide) (q_way_no (s_way_f t0 t4 hn ⟨c2, c3⟩ c4 c5) (by decide))⟩)
    have e9 : tm_v μ 1 9 = tm_v ν 65 43 := hV.2.1
    refine ⟨fun c6 => ?_, fun c6 => r_none0 hs (by omega) (by decide) (by decide) (q_way_no (by rw [s_way_7 t0 t4 hn ⟨c2, c3⟩ c4 c5, if_pos (by rw [← e9]; exact c6)]) (by decide))⟩
    rw [e9] at c6
    have hst : s_way ν t n 4 = 0 := by rw [s_way_7 t0 t4 hn ⟨c2, c3⟩ c4 c5, if_neg c6]
    refine rcl_of (d' := d - 1) (pX0_rowOf (by omega) hw hs hY t0 t4 (by omega) c3 c4) (by omega) (by decide) (by decide) (fun o m q => ?_)
    obtain ⟨rfl, hm⟩ := q
    have hzm : tm_z m = tm_z μ + 1 := hm.2.2.1
    refine Or.inl ⟨_, rfl, hm.2.1, fun c7 => ⟨by decide, ?_⟩, fun c7 => ⟨by decide, ?_⟩⟩
    · rintro m2 rfl
      have s2 : tS (tm_a m 9 1) := tS_a hm.2.1 _ _
      refine ⟨s2, by omega, rcl_of (d' := d - 1) (pX10_init (by omega) s2 (by omega) (by rw [tm_ka, if_pos rfl]; exact Or.inl rfl) (z_tfr hm.2.1)) (by omega) (by decide) (by decide) (fun o m3 q => ?_)⟩
      obtain ⟨rfl, rfl⟩ := q
      have hN := newW_of (kd := 9) hs hm
      rw [if_pos c7]
      exact Or.inl ⟨rfl, hN.2.1, r_add (by omega) hs hV c6 hst (Or.inl rfl) (by decide) (by decide) hN rfl⟩
    · rintro m2 rfl
      have s2 : tS (tm_a m 10 1) := tS_a hm.2.1 _ _
      refine ⟨s2, by omega, rcl_of (d' := d - 1) (pX11_init (by omega) s2 (by omega) (by rw [tm_ka, if_pos rfl]; exact Or.inr (Or.inl rfl)) (z_tfr hm.2.1)) (by omega) (by decide) (by decide) (fun o m3 q => ?_)⟩
      obtain ⟨rfl, rfl⟩ := q
      have hN := newW_of (kd := 10) hs hm
      rw [if_neg c7]
      exact Or.inl ⟨rfl, hN.2.1, r_add (by omega) hs hV c6 hst (Or.inr (Or.inl rfl)) (by decide) (by decide) hN rfl⟩
  · by_cases q : tm_v ν 67 t < 0
    · exact q
    · have := (hY.yes t0 t4 (by omega)).1; unfold c_Y at this; omega
theorem pX0_sight (hd : 4 ≤ d) (hs : tS μ) (hJ : JU μ ν) (hV : JV μ ν) (hY : JY μ ν) : tC mX0_sight d 2 25 [(2, 1), (0, t)] μ (q_way (s_way ν t 18 14) μ ν t 18 11) := by
  refine tC_wf fun hw => ?_
  have hz := hs.2.2
  refine tC_of rfl (Nat.le_of_ble_eq_true rfl) (rX0_sight_0 hs ?_)
  refine r_isTray (A := fun r μ1 nc1 ns1 => tS μ1 ∧ _) hs (by omega) (by decide) (by decide) ⟨hs, fun c => ?_, fun c => r_none0 hs (by omega) (by decide) (by decide) (q_way_no (s_way_1 (b2i_0.mp c)) (by decide))⟩
  have ht := b2i_1.mp c
  obtain ⟨t0, t4⟩ := id ht
  refine ⟨ht, fun c1 => ⟨ht, ?_⟩, fun c1 => r_none0 hs (by omega) (by decide) (by decide) (q_way_no (s_way_3 t0 t4 ?_) (by decide))⟩
  · have hn : 0 ≤ tm_v ν 67 t := by
      by_cases q : tm_v ν 67 t < 0
      · have := hY.no t0 t4 q; unfold c_Y at this; omega
      · omega
    refine k_many (A := fun r μ1 nc1 ns1 => tS μ1 ∧ _) hs hY t0 t4 hn (by omega) (by decide) (by decide) ⟨hs, fun c4 => ?_, fun c4 => r_none0 hs (by omega) (by decide) (by decide) (q_way_no (s_way_4 t0 t4 hn (by decide) c4) (by decide))⟩
    refine k_from (A := fun r μ1 nc1 ns1 => tS μ1 ∧ _) hs hJ hY t0 t4 c4 (by omega) (by omega) (by decide) (by decide) (fun c5 => ⟨hs, fun _ => ?_, fun q => absurd q (by decide)⟩) (fun c5 => ⟨hs, fun q => absurd rfl q, fun _ => r_none0 hs (by omega) (by decide) (by decide) (q_way_no (s_way_f t0 t4 hn (by decide) c4 c5) (by decide))⟩)
    have e9 : tm_v μ 1 9 = tm_v ν 65 43 := hV.2.1
    refine ⟨fun c6 => ?_, fun c6 => r_none0 hs (by omega) (by decide) (by decide) (q_way_no (by rw [s_way_7 t0 t4 hn (by decide) c4 c5, if_pos (by rw [← e9]; exact c6)]) (by decide))⟩
    rw [e9] at c6
    have hst : s_way ν t 18 14 = 0 := by rw [s_way_7 t0 t4 hn (by decide) c4 c5, if_neg c6]
    refine ⟨by decide, ?_⟩
    rintro m2 rfl
    have s2 : tS (tm_a μ 11 1) := tS_a hs _ _
    have hw2 : tw_f (tm_a μ 11 1) := tw_al hw (Or.inl ⟨by decide, rfl⟩)
    refine ⟨s2, rcl_of (d' := d - 1) (pX0_rowOf (by omega) hw2 s2 (JY_E hw hs hY (tE.a _ _ _)) t0 t4 (by decide) (by decide) c4) (by omega) (by decide) (by decide) (fun o m q => ?_)⟩
    obtain ⟨rfl, hm⟩ := q
    have hk : tm_k m (tm_z μ) = 11 := by rw [hm.1.k (by rw [tm_za]; omega), tm_ka, if_pos rfl]
    refine Or.inl ⟨_, rfl, hm.2.1, by omega, rcl_of (d' := d - 1) (pX12_init (by omega) hm.2.1 (by omega) (by rw [hk]; exact Or.inr (Or.inr rfl)) (z_tfr hs)) (by omega) (by decide) (by decide) (fun o m3 q => ?_)⟩
    obtain ⟨rfl, rfl⟩ := q
    have hN := newW_of2 (kd := 11) hs hm
    exact Or.inl ⟨rfl, hN.2.1, r_add (by omega) hs hV c6 hst (Or.inr (Or.inr rfl)) (by decide) (by decide) hN rfl⟩
  · by_cases q : tm_v ν 67 t < 0
    · exact q
    · have := (hY.yes t0 t4 (by omega)).1; unfold c_Y at this; omega
end C0WY
