/-! CONTRACTS of the component: the reader's next token -/
section C0RD
variable {d mc ms nc ns : Nat} {μ μ0 : tm_M} {k x : Int}
abbrev wRd : Int → Int → Prop := tWs [] [(4, 3), (4, 4), (4, 5), (4, 6)]
def c_tx (μ : tm_M) (k : Int) : Int := tm_v μ 5 k % 256
/-- a text is there -/
def c_X (μ : tm_M) : Prop := (∀ k, -128 ≤ tm_v μ 5 k ∧ tm_v μ 5 k ≤ 127) ∧ 0 ≤ tm_v μ 4 2 ∧ tm_v μ 4 2 ≤ 500
def c_at (μ : tm_M) (k : Int) : Int := if k < tm_v μ 4 2 then c_tx μ k else -1
def cso (s : Int) : Int := if s = 0 then 0 else if s = 1 then 2 else if s = 2 then 3 else if s = 3 then 4 else 1
def hasC (m : tm_M) (t : TK) : Prop := tm_v m 4 3 = cso (kso t) ∧ tm_v m 4 4 = kfr t ∧ tm_v m 4 5 = ken t ∧ (kso t = 2 → tm_v m 4 6 = kva t)
theorem r_q {M' : tM} {as : tSt} {d' : Nat} {A : Int → tm_M → Nat → Nat → Prop} {B : Int → tm_M → Nat → Nat → Prop} (hc : tC M' d' 0 0 as μ (q_is μ x)) (hd : d' + 1 ≤ d) (h1 : nc ≤ mc) (h2 : ns ≤ ms) (hq : A x μ nc ns) :
    rcl M' as μ d mc ms nc ns (fun o μ1 nc1 ns1 => rk 0 o (fun r => A r μ1 nc1 ns1) (fun a => B a μ1 nc1 ns1)) :=
  rcl_of hc hd (by omega) (by omega) (fun o μ1 q => Or.inl ⟨x, q.1, by rw [q.2]; exact hq⟩)
theorem pX2_at (hs : tS μ) (hX : c_X μ) (h0 : 0 ≤ k) : tC mX2_at d 0 0 [(2, 4), (0, k)] μ (q_is μ (c_at μ k)) := by
  refine tC_of rfl (Nat.le_of_ble_eq_true rfl) (rX2_at_0 hs ⟨fun c => ⟨by decide, ?_, rfl⟩, fun c => ⟨by have := hX.2; omega, by decide, ?_, rfl⟩⟩)
  · unfold c_at; rw [if_neg (by omega)]
  · unfold c_at c_tx; rw [if_pos c, i_and255 (hX.1 k)]
theorem pX2_isSmall (hs : tS μ) : tC mX2_isSmall d 0 0 [(0, x)] μ (q_is μ (b2i (97 ≤ x ∧ x ≤ 122))) := by
  refine tC_of rfl (Nat.le_of_ble_eq_true rfl) (rX2_isSmall_0 hs ⟨fun c => ⟨by decide, ?_, rfl⟩, fun c => ⟨fun c1 => ⟨by decide, ?_, rfl⟩, fun c1 => ⟨by decide, ?_, rfl⟩⟩⟩)
  · unfold b2i; rw [if_neg (by omega)]
  · unfold b2i; rw [if_neg (by omega)]
  · unfold b2i; rw [if_pos (by omega)]
theorem pX2_isDigit (hs : tS μ) : tC mX2_isDigit d 0 0 [(0, x)] μ (q_is μ (b2i (48 ≤ x ∧ x ≤ 57))) := by
  refine tC_of rfl (Nat.le_of_ble_eq_true rfl) (rX2_isDigit_0 hs ⟨fun c => ⟨by decide, ?_, rfl⟩, fun c => ⟨fun c1 => ⟨by decide, ?_, rfl⟩, fun c1 => ⟨by decide, ?_, rfl⟩⟩⟩)
  · unfold b2i; rw [if_neg (by omega)]
  · unfold b2i; rw [if_neg (by omega)]
  · unfold b2i; rw [if_pos (by omega)]
theorem c_X_F {W : Int → Int → Prop} (h : tFr W μ0 μ) (h5 : ∀ j, ¬ W 5 j) (h2 : ¬ W 4 2) (hX : c_X μ0) : c_X μ := by
  refine ⟨fun k => by rw [h.v (h5 k)]; exact hX.1 k, ?_⟩
  rw [h.v h2]
  exact hX.2
theorem c_tx_F {W : Int → Int → Prop} (h : tFr W μ0 μ) (h5 : ∀ j, ¬ W 5 j) : c_tx μ = c_tx μ0 := by
  funext k
  unfold c_tx
  rw [h.v (h5 k)]
def q_next (μ : tm_M) (t : TK) : tQ := fun o m => o = .inl none ∧ tFr wRd μ m ∧ hasC m t
theorem wRd_w {m : tm_M} {j x : Int} (h : tFr wRd μ m) (hj : j = 3 ∨ j = 4 ∨ j = 5 ∨ j = 6) : tFr wRd μ (tm_w m 4 j x) := by
  rcases hj with rfl | rfl | rfl | rfl
  all_goals exact h.w (tWs_inF rfl) (tS_wj h.S _ (by decide))
theorem nb_in (tx : Int → Int) (a : Int) : ∀ k : Nat, (∀ i : Nat, i < k → 48 ≤ tx (a + i) ∧ tx (a + i) ≤ 57) → 0 ≤ nb tx a k ∧ nb tx a k ≤ 99 ∧ (k ≤ 1 → nb tx a k ≤ 9) ∧ (k = 0 → nb tx a k = 0) := by
  intro k
  induction k with
  | zero => intro _; simp [nb]
  | succ k ih =>
    intro h
    have h1 := ih (fun i hi => h i (by omega))
    have h2 := h k (by omega)
    rw [nb]
    split
    · rename_i c
      have : k = 0 ∨ k = 1 := by omega
      have h3 := h1.2.2.1
      have h4 := h1.2.2.2
      rcases this with q | q
      · have := h4 q; omega
      · have := h3 (by omega); omega
    · exact ⟨h1.1, h1.2.1, by omega, by omega⟩
theorem pX2_next (hd : 1 ≤ d) (hs : tS μ) (hX : c_X μ) (hb : 0 ≤ tm_v μ 4 5 ∧ tm_v μ 4 5 ≤ tm_v μ 4 2) : tC mX2_next d 0 0 [(2, 4)] μ (q_next μ (tok (c_tx μ) (tm_v μ 4 2) (tm_v μ 4 5))) := by
  have hn := hX.2
  have e2 : ∀ {m : tm_M}, tFr wRd μ m → tm_v m 4 2 = tm_v μ 4 2 := fun h => h.v (tWs_noF rfl)
  have n5 : ∀ j, ¬ wRd 5 j := fun j => tWs_no j rfl
  have at_ : ∀ {m : tm_M} {e : Int}, tFr wRd μ m → c_at m e = if e < tm_v μ 4 2 then c_tx μ e else -1 := by
    intro m e h
    unfold c_at
    rw [e2 h, c_tx_F h n5]
  have txr : ∀ e, 0 ≤ c_tx μ e ∧ c_tx μ e ≤ 255 := by intro e; unfold c_tx; omega
  have R : ∀ {m : tm_M} {e : Int} {A : Int → tm_M → Nat → Nat → Prop} {B : Int → tm_M → Nat → Nat → Prop}, tFr wRd μ m → 0 ≤ e → A (if e < tm_v μ 4 2 then c_tx μ e else -1) m 0 0 → rcl mX2_at [(2, 4), (0, e)] m d 0 0 0 0 (fun o μ1 nc1 ns1 => rk 0 o (fun r => A r μ1 nc1 ns1) (fun a => B a μ1 nc1 ns1)) := by
    intro m e A B h h0 hA
    refine r_q (d' := 0) (pX2_at h.S (c_X_F h n5 (tWs_noF rfl) hX) h0) hd (Nat.le_refl _) (Nat.le_refl _) ?_
    rw [at_ h]
    exact hA
  -- a word
  have letters : ∀ (a w : Int), 0 ≤ a → ∀ (f : Nat) (e : Int) (m : tm_M), a ≤ e → e ≤ tm_v μ 4 2 → (f : Int) = tm_v μ 4 2 - e → tFr wRd μ m → tm_v m 4 4 = a → tm_v m 4 5 = e → ∀ E, rn 97 122 (c_tx μ) (tm_v μ 4 2) f e = E → tH mX2_next d 0 0 (tq (q_next μ (1, a, E, w)) 0 0) 81 [(0, 2, 4)] [] m 0 0 := by
    intro a w a0 f
    induction f with
    | zero =>
      intro e m he hen hf hm h4 h5 E hE
      rw [rn] at hE
      subst hE
      refine rX2_next_81 hm.S ?_
      rw [h5]
      refine R (A := fun r μ1 nc1 ns1 => tS μ1 ∧ _) hm (by omega) ⟨hm.S, ?_⟩
      rw [if_neg (by omega)]
      refine r_q (d' := 0) (A := fun r μ1 nc1 ns1 => tS μ1 ∧ _) (pX2_isSmall hm.S) hd (Nat.le_refl _) (Nat.le_refl _) ⟨hm.S, fun _ => ?_, fun c => absurd (b2i_1.mp c) (by omega)⟩
      rintro m5 rfl
      have g := wRd_w (j := 3) (x := 2) hm (by omega)
      refine ⟨g.S, by decide, rfl, g, ?_, ?_, ?_, fun q => absurd q (by show ¬ (1 : Int) = 2; decide)⟩
      · rw [tm_vw, if_pos ⟨rfl, rfl⟩]; rfl
      · rw [tm_vw, if_neg (by omega)]; exact h4
      · rw [tm_vw, if_neg (by omega)]; exact h5
    | succ f ih =>
      intro e m he hen hf hm h4 h5 E hE
      refine rX2_next_81 hm.S ?_
      rw [h5]
      refine R (A := fun r μ1 nc1 ns1 => tS μ1 ∧ _) hm (by omega) ⟨hm.S, ?_⟩
      rw [if_pos (by omega)]
      refine r_q (d' := 0) (A := fun r μ1 nc1 ns1 => tS μ1 ∧ _) (pX2_isSmall hm.S) hd (Nat.le_refl _) (Nat.le_refl _) ⟨hm.S, fun c => ?_, fun c => ?_⟩
      · have c := b2i_0.mp c
        rw [rn, if_neg (fun q => c q.2)] at hE
        subst hE
        rintro m5 rfl
        have g := wRd_w (j := 3) (x := 2) hm (by omega)
        refine ⟨g.S, by decide, rfl, g, ?_, ?_, ?_, fun q => absurd q (by show ¬ (1 : Int) = 2; decide)⟩
        · rw [tm_vw, if_pos ⟨rfl, rfl⟩]; rfl
        · rw [tm_vw, if_neg (by omega)]; exact h4
        · rw [tm_vw, if_neg (by omega)]; exact h5
      · have c := b2i_1.mp c
        rw [rn, if_pos ⟨by omega, c⟩] at hE
        rw [h5, w32_id (by omega) (by omega)]
        rintro m7 rfl
        have g := wRd_w (j := 5) (x := e + 1) hm (by omega)
        refine ⟨g.S, ih (e + 1) _ (by omega) (by omega) (by omega) g ?_ ?_ E hE⟩
        · rw [tm_vw, if_neg (by omega)]; exact h4
        · rw [tm_vw, if_pos ⟨rfl, rfl⟩]
  -- a number
  have digits : ∀ (a : Int), 0 ≤ a → ∀ (f : Nat) (e : Int) (m : tm_M), a ≤ e → e ≤ tm_v μ 4 2 → (f : Int) = tm_v μ 4 2 - e → tFr wRd μ m → tm_v m 4 4 = a → tm_v m 4 5 = e → (0 ≤ tm_v m 4 6 ∧ tm_v m 4 6 ≤ 1000) → (e - a ≤ 2 → tm_v m 4 6 = nb (c_tx μ) a (e - a).toNat) → (∀ i : Nat, i < (e - a).toNat → 48 ≤ c_tx μ (a + i) ∧ c_tx μ (a + i) ≤ 57) →
      ∀ E, rn 48 57 (c_tx μ) (tm_v μ 4 2) f e = E → tH mX2_next d 0 0 (tq (q_next μ (if 2 < E - a then 4 else 2, a, E, nb (c_tx μ) a (E - a).toNat)) 0 0) 128 [(0, 2, 4)] [] m 0 0 := by
    intro a a0 f
    have stop : ∀ (e : Int) (m : tm_M), a ≤ e → e ≤ tm_v μ 4 2 → tFr wRd μ m → tm_v m 4 4 = a → tm_v m 4 5 = e → (e - a ≤ 2 → tm_v m 4 6 = nb (c_tx μ) a (e - a).toNat) → ∀ y, y = (if 2 < e - a then 1 else 3) → ∀ m', m' = tm_w m 4 3 y → tS m' ∧ ((0 ≤ 0 ∧ 0 ≤ 0) ∧ q_next μ (if 2 < e - a then 4 else 2, a, e, nb (c_tx μ) a (e - a).toNat) (.inl none) m') := by
      intro e m he hen hm h4 h5 h6 y hy m' e'
      have g := wRd_w (j := 3) (x := y) hm (by omega)
      rw [e']
      refine ⟨g.S, by decide, rfl, g, ?_, ?_, ?_, fun q => ?_⟩
      · rw [tm_vw, if_pos ⟨rfl, rfl⟩, hy]
        show _ = cso (if 2 < e - a then 4 else 2)
        split <;> rfl
      · rw [tm_vw, if_neg (by omega)]; exact h4
      · rw [tm_vw, if_neg (by omega)]; exact h5
      · have q' : (if 2 < e - a then (4 : Int) else 2) = 2 := q
        rw [tm_vw, if_neg (by omega)]
        refine h6 ?_
        split at q' <;> omega
    induction f with
    | zero =>
      intro e m he hen hf hm h4 h5 h6r h6 hdg E hE
      rw [rn] at hE
      subst hE
      refine rX2_next_128 hm.S ?_
      rw [h5]
      refine R (A := fun r μ1 nc1 ns1 => tS μ1 ∧ _) hm (by omega) ⟨hm.S, ?_⟩
      rw [if_neg (by omega)]
      refine r_q (d' := 0) (A := fun r μ1 nc1 ns1 => tS μ1 ∧ _) (pX2_isDigit hm.S) hd (Nat.le_refl _) (Nat.le_refl _) ⟨hm.S, fun _ => ?_, fun c => absurd (b2i_1.mp c) (by omega)⟩
      rw [h4, h5, w32_id (x := e - a) (by omega) (by omega)]
      exact ⟨fun c => stop e m he hen hm h4 h5 h6 3 (by rw [if_neg (by omega)]), fun c => stop e m he hen hm h4 h5 h6 1 (by rw [if_pos c])⟩
    | succ f ih =>
      intro e m he hen hf hm h4 h5 h6r h6 hdg E hE
      refine rX2_next_128 hm.S ?_
      rw [h5]
      refine R (A := fun r μ1 nc1 ns1 => tS μ1 ∧ _) hm (by omega) ⟨hm.S, ?_⟩
      rw [if_pos (by omega)]
      refine r_q (d' := 0) (A := fun r μ1 nc1 ns1 => tS μ1 ∧ _) (pX2_isDigit hm.S) hd (Nat.le_refl _) (Nat.le_refl _) ⟨hm.S, fun c => ?_, fun c => ?_⟩
      · have c := b2i_0.mp c
        rw [rn, if_neg (fun q => c q.2)] at hE
        subst hE
        rw [h4, h5, w32_id (x := e - a) (by omega) (by omega)]
        exact ⟨fun c => stop e m he hen hm h4 h5 h6 3 (by rw [if_neg (by omega)]), fun c => stop e m he hen hm h4 h5 h6 1 (by rw [if_pos c])⟩
      · have c := b2i_1.mp c
        rw [rn, if_pos ⟨by omega, c⟩] at hE
        rw [h5]
        refine R (A := fun r μ1 nc1 ns1 => tS μ1 ∧ _) hm (by omega) ⟨hm.S, ?_⟩
        rw [if_pos (by omega), w32_id (x := 10 * tm_v m 4 6) (by omega) (by omega), w32_id (x := 10 * tm_v m 4 6 + c_tx μ e) (by omega) (by omega), w32_id (x := 10 * tm_v m 4 6 + c_tx μ e - 48) (by omega) (by omega)]
        refine rcl_I (d' := 0) (pJ8_min hm.S) hd (Nat.le_refl _) (Nat.le_refl _) (fun r12 m12 f12 q12 => ?_)
        rw [tFr_eq f12]
        refine ⟨hm.S, ?_⟩
        rintro m13 rfl
        have g := wRd_w (j := 6) (x := r12) hm (by omega)
        refine ⟨g.S, ?_⟩
        have e5 : tm_v (tm_w m 4 6 r12) 4 5 = e := by rw [tm_vw, if_neg (by omega)]; exact h5
        rw [e5, w32_id (x := e + 1) (by omega) (by omega)]
        rintro m14 rfl
        have g2 := wRd_w (j := 5) (x := e + 1) g (by omega)
        have v6 : tm_v (tm_w (tm_w m 4 6 r12) 4 5 (e + 1)) 4 6 = r12 := by rw [tm_vw, if_neg (by omega), tm_vw, if_pos ⟨rfl, rfl⟩]
        have ek : (e + 1 - a).toNat = (e - a).toNat + 1 := by omega
        have hdg2 : ∀ i : Nat, i < (e + 1 - a).toNat → 48 ≤ c_tx μ (a + i) ∧ c_tx μ (a + i) ≤ 57 := by
          intro i hi
          by_cases q : i < (e - a).toNat
          · exact hdg i q
          · have : a + (i : Int) = e := by omega
            rw [this]; exact c
        refine ⟨g2.S, ih (e + 1) _ (by omega) (by omega) (by omega) g2 ?_ ?_ ?_ ?_ hdg2 E hE⟩
        · rw [tm_vw, if_neg (by omega), tm_vw, if_neg (by omega)]; exact h4
        · rw [tm_vw, if_pos ⟨rfl, rfl⟩]
        · rw [v6, q12]; omega
        · intro h2
          have hnb := nb_in (c_tx μ) a (e + 1 - a).toNat hdg2
          have hnb0 := nb_in (c_tx μ) a (e - a).toNat hdg
          have h66 := h6 (by omega)
          rw [v6, q12, h66]
          rw [ek, nb, if_pos (by omega), show a + ((e - a).toNat : Int) = e by omega] at hnb ⊢
          omega
  -- the start
  have start : ∀ (f : Nat) (e : Int) (m : tm_M), 0 ≤ e → e ≤ tm_v μ 4 2 → (f : Int) = tm_v μ 4 2 - e → tFr wRd μ m → tm_v m 4 5 = e → ∀ a, skp (c_tx μ) (tm_v μ 4 2) f e = a → tH mX2_next d 0 0 (tq (q_next μ (tokA (c_tx μ) (tm_v μ 4 2) a)) 0 0) 0 [(0, 2, 4)] [] m 0 0 := by
    intro f
    have go : ∀ (e : Int) (m : tm_M), 0 ≤ e → e ≤ tm_v μ 4 2 → tFr wRd μ m → tm_v m 4 5 = e → ¬ (e < tm_v μ 4 2 ∧ (c_tx μ e = 10 ∨ c_tx μ e = 32)) → tH mX2_next d 0 0 (tq (q_next μ (tokA (c_tx μ) (tm_v μ 4 2) e)) 0 0) 0 [(0, 2, 4)] [] m 0 0 := by
      intro e m he hen hm h5 hsp
      have ht := txr e
      refine rX2_next_0 hm.S ?_
      rw [h5]
      refine R (A := fun r μ1 nc1 ns1 => tS μ1 ∧ _) hm he ⟨hm.S, fun c => ?_, fun c => ?_⟩
      · exfalso
        by_cases q : e < tm_v μ 4 2
        · rw [if_pos q] at c; exact hsp ⟨q, Or.inr c⟩
        · rw [if_neg q] at c; omega
      rw [h5]
      have no10 : (if e < tm_v μ 4 2 then c_tx μ e else -1) ≠ 10 := by
        intro c1
        by_cases q : e < tm_v μ 4 2
        · rw [if_pos q] at c1; exact hsp ⟨q, Or.inl c1⟩
        · rw [if_neg q] at c1; omega
      refine R (A := fun r μ1 nc1 ns1 => tS μ1 ∧ _) hm he ⟨hm.S, fun c1 => ?_, fun c1 => absurd c1 no10⟩
      rw [h5]
      rintro m8 rfl
      have g8 := wRd_w (j := 4) (x := e) hm (by omega)
      have h54 : tm_v (tm_w m 4 4 e) 4 5 = e := by rw [tm_vw, if_neg (by omega)]; exact h5
      refine ⟨g8.S, ?_⟩
      rw [h54]
      refine R (A := fun r μ1 nc1 ns1 => tS μ1 ∧ _) g8 he ⟨g8.S, ?_⟩
      rintro m10 rfl
      have g10 : ∀ x, tFr wRd μ (tm_w (tm_w m 4 4 e) 4 6 x) := fun x => wRd_w g8 (by omega)
      have v4 : ∀ x, tm_v (tm_w (tm_w m 4 4 e) 4 6 x) 4 4 = e := fun x => by rw [tm_vw, if_neg (by omega), tm_vw, if_pos ⟨rfl, rfl⟩]
      have v5 : ∀ x, tm_v (tm_w (tm_w m 4 4 e) 4 6 x) 4 5 = e := fun x => by rw [tm_vw, if_neg (by omega)]; exact h54
      refine ⟨(g10 _).S, fun c2 => ?_, fun c2 => ?_⟩
      · have q : e < tm_v μ 4 2 := by
          by_cases q : e < tm_v μ 4 2
          · exact q
          · rw [if_neg q] at c2; exact absurd rfl c2
        rw [if_pos q]
        refine r_q (d' := 0) (A := fun r μ1 nc1 ns1 => tS μ1 ∧ _) (pX2_isSmall (g10 _).S) hd (Nat.le_refl _) (Nat.le_refl _) ⟨(g10 _).S, fun c3 => ?_, fun c3 => ?_⟩
        · have c3 := b2i_0.mp c3
          refine r_q (d' := 0) (A := fun r μ1 nc1 ns1 => tS μ1 ∧ _) (pX2_isDigit (g10 _).S) hd (Nat.le_refl _) (Nat.le_refl _) ⟨(g10 _).S, fun c4 => ?_, fun c4 => ?_⟩
          · have c4 := b2i_0.mp c4
            rw [v5, w32_id (x := e + 1) (by omega) (by omega)]
            rintro m19 rfl
            have g19 := wRd_w (j := 5) (x := e + 1) (g10 (c_tx μ e)) (by omega)
            have et : tokA (c_tx μ) (tm_v μ 4 2) e = (if c_tx μ e = 59 then 3 else 4, e, e + 1, c_tx μ e) := by unfold tokA; rw [if_neg (by omega), if_neg c3, if_neg c4]
            refine ⟨g19.S, fun c5 => ?_, fun c5 => ?_⟩
            · rintro m22 rfl
              have g22 := wRd_w (j := 3) (x := 1) g19 (by omega)
              refine ⟨g22.S, by decide, rfl, g22, ?_⟩
              rw [et, if_neg c5]
              refine ⟨?_, ?_, ?_, fun q => absurd q (by show ¬ (4 : Int) = 2; decide)⟩
              · rw [tm_vw, if_pos ⟨rfl, rfl⟩]; rfl
              · rw [tm_vw, if_neg (by omega), tm_vw, if_neg (by omega)]; exact v4 _
              · rw [tm_vw, if_neg (by omega), tm_vw, if_pos ⟨rfl, rfl⟩]; rfl
            · rintro m24 rfl
              have g24 := wRd_w (j := 3) (x := 4) g19 (by omega)
              refine ⟨g24.S, by decide, rfl, g24, ?_⟩
              rw [et, if_pos c5]
              refine ⟨?_, ?_, ?_, fun q => absurd q (by show ¬ (3 : Int) = 2; decide)⟩
              · rw [tm_vw, if_pos ⟨rfl, rfl⟩]; rfl
              · rw [tm_vw, if_neg (by omega), tm_vw, if_neg (by omega)]; exact v4 _
              · rw [tm_vw, if_neg (by omega), tm_vw, if_pos ⟨rfl, rfl⟩]; rfl
          · have c4 := b2i_1.mp c4
            rintro m26 rfl
            have g26 := wRd_w (j := 6) (x := 0) (g10 (c_tx μ e)) (by omega)
            have et : tokA (c_tx μ) (tm_v μ 4 2) e = (if 2 < rnD (c_tx μ) (tm_v μ 4 2) e - e then 4 else 2, e, rnD (c_tx μ) (tm_v μ 4 2) e, nb (c_tx μ) e (rnD (c_tx μ) (tm_v μ 4 2) e - e).toNat) := by unfold tokA; rw [if_neg (by omega), if_neg c3, if_pos c4]
            refine ⟨g26.S, ?_⟩
            rw [et]
            refine digits e he (tm_v μ 4 2 - e).toNat e _ (Int.le_refl _) hen (by omega) g26 ?_ ?_ ?_ (fun _ => ?_) (fun i hi => by omega) _ rfl
            · rw [tm_vw, if_neg (by omega)]; exact v4 _
            · rw [tm_vw, if_neg (by omega)]; exact v5 _
            · rw [tm_vw, if_pos ⟨rfl, rfl⟩]; omega
            · rw [tm_vw, if_pos ⟨rfl, rfl⟩, show (e - e).toNat = 0 by omega, nb]
        · have c3 := b2i_1.mp c3
          have et : tokA (c_tx μ) (tm_v μ 4 2) e = (1, e, rnL (c_tx μ) (tm_v μ 4 2) e, wd (c_tx μ) e (rnL (c_tx μ) (tm_v μ 4 2) e - e).toNat) := by unfold tokA; rw [if_neg (by omega), if_pos c3]
          rw [et]
          exact letters e _ he (tm_v μ 4 2 - e).toNat e _ (Int.le_refl _) hen (by omega) (g10 _) (v4 _) (v5 _) _ rfl
      · have q : ¬ e < tm_v μ 4 2 := by
          intro q
          rw [if_pos q] at c2
          omega
        rintro m27 rfl
        have g27 := wRd_w (j := 3) (x := 0) (g10 (if e < tm_v μ 4 2 then c_tx μ e else -1)) (by omega)
        have et : tokA (c_tx μ) (tm_v μ 4 2) e = (0, e, e, 0) := by unfold tokA; rw [if_pos (by omega)]
        refine ⟨g27.S, by decide, rfl, g27, ?_⟩
        rw [et]
        refine ⟨?_, ?_, ?_, fun q => absurd q (by show ¬ (0 : Int) = 2; decide)⟩
        · rw [tm_vw, if_pos ⟨rfl, rfl⟩]; rfl
        · rw [tm_vw, if_neg (by omega)]; exact v4 _
        · rw [tm_vw, if_neg (by omega)]; exact v5 _
    induction f with
    | zero =>
      intro e m he hen hf hm h5 a ha
      rw [skp] at ha
      subst ha
      exact go e m he hen hm h5 (by omega)
    | succ f ih =>
      intro e m he hen hf hm h5 a ha
      rw [skp] at ha
      by_cases c : e < tm_v μ 4 2 ∧ (c_tx μ e = 10 ∨ c_tx μ e = 32)
      · rw [if_pos c] at ha
        have g := wRd_w (j := 5) (x := e + 1) hm (by omega)
        have nx := ih (e + 1) _ (by omega) (by omega) (by omega) g (by rw [tm_vw, if_pos ⟨rfl, rfl⟩]) a ha
        refine rX2_next_0 hm.S ?_
        rw [h5]
        refine R (A := fun r μ1 nc1 ns1 => tS μ1 ∧ _) hm he ⟨hm.S, fun c1 => ?_, fun c1 => ?_⟩
        · rw [h5, w32_id (x := e + 1) (by omega) (by omega)]
          rintro m4 rfl
          exact ⟨g.S, nx⟩
        · rw [if_pos c.1] at c1
          rw [h5]
          refine R (A := fun r μ1 nc1 ns1 => tS μ1 ∧ _) hm he ⟨hm.S, fun c2 => ?_, fun c2 => ?_⟩
          · rw [if_pos c.1] at c2; omega
          · rw [h5, w32_id (x := e + 1) (by omega) (by omega)]
            rintro m4 rfl
            exact ⟨g.S, nx⟩
      · rw [if_neg c] at ha
        subst ha
        exact go e m he hen hm h5 c
  exact tC_of rfl (Nat.le_of_ble_eq_true rfl) (start (tm_v μ 4 2 - tm_v μ 4 5).toNat (tm_v μ 4 5) μ hb.1 hb.2 (by omega) (tFr.rf hs) rfl _ rfl)
end C0RD
