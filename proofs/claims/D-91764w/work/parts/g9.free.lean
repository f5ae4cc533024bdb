/-! CONTRACTS of the component: a place for a lane to go on with -/
section C0FR
variable {d : Nat} {z : Int} {tx : Int → Int} {m μ : tm_M} {s : TN} {t : TK} {a b : Int}
theorem nw.o {x : Int} {k : Nat} (h : nw z m x k) (hz : 104 ≤ z) : ob m x k := ⟨⟨by have := h.1.1; omega, h.2⟩, Or.inl (by have := h.1.1; omega)⟩
theorem JR.P (h : JR z tx m s) {k : Int} (k0 : 0 ≤ k) (k1 : k < n_p s) : nw z m (rP m k) 7 ∧ nmE tx (tm_v m (rP m k) 0) (n_m s k) ∧ tm_v m (rP m k) 1 = k ∧ (tm_v m (rP m k) 2 = n_f s (3 * k) ∧ tm_v m (rP m k) 3 = n_f s (3 * k + 1) ∧ tm_v m (rP m k) 4 = n_f s (3 * k + 2) ∧ tm_v m (rP m k) 5 = n_d s k) ∧
    (nw z m (rA m k) 27 ∧ tm_n m (rA m k) = 4 ∧ rA m k ≠ rLA m) ∧ ∀ i, 0 ≤ i → i < n_d s k → tm_v m (rA m k) i = rL m (n_a s (4 * k + i)) := h.2.2.2.1 k k0 k1
theorem JR.L (h : JR z tx m s) {l : Int} (l0 : 0 ≤ l) (l1 : l < n_l s) : nw z m (rL m l) 8 ∧ tm_v m (rL m l) 0 = rP m (n_1 s l) ∧ tm_v m (rL m l) 1 = rP m (n_2 s l) ∧ tm_v m (rL m l) 2 = 0 := h.2.2.2.2.1 l l0 l1
theorem JR.inj (h : JR z tx m s) {k k' : Int} (k0 : 0 ≤ k) (k1 : k < n_p s) (h0 : 0 ≤ k') (h1 : k' < n_p s) (e : rP m k = rP m k') : k = k' := by
  rw [← (h.P k0 k1).2.2.1, ← (h.P h0 h1).2.2.1, e]
theorem led_dup (h : JR z tx m s) (hw : wfT s) (a0 : 0 ≤ a) (a1 : a < n_p s) (b0 : 0 ≤ b) (b1 : b < n_p s) (hne : a ≠ b) : ledto m (rP m a) (rP m b) ↔ dup s a b := by
  obtain ⟨p1, p2, p3, p4, p5, p6⟩ := h.P a0 a1
  have hwa := hw.2.1 a a0 a1
  constructor
  · rintro ⟨k, k0, k1, k2⟩
    rw [p4.2.2.2] at k1
    obtain ⟨c1, c2⟩ := hwa.2.2.2.2 k k0 k1
    have hwl := hw.2.2.1 _ c1.1 c1.2
    obtain ⟨l1, l2, l3, l4⟩ := h.L c1.1 c1.2
    have e6 : tm_v m (tm_v m (rP m a) 6) k = rL m (n_a s (4 * a + k)) := p6 k k0 k1
    rw [e6] at k2
    unfold oth at k2
    rw [l2, l3] at k2
    by_cases q : rP m a = rP m (n_1 s (n_a s (4 * a + k)))
    · rw [if_pos q] at k2
      have q1 := h.inj a0 a1 hwl.1.1 hwl.1.2 q
      have q2 := h.inj hwl.2.1.1 hwl.2.1.2 b0 b1 k2
      exact ⟨_, c1, Or.inl ⟨q1.symm, q2⟩⟩
    · rw [if_neg q] at k2
      have q2 := h.inj hwl.1.1 hwl.1.2 b0 b1 k2
      refine ⟨_, c1, Or.inr ⟨q2, ?_⟩⟩
      rcases c2 with z1 | z1
      · exact absurd (by rw [z1]) q
      · exact z1
  · rintro ⟨l, hl, hc⟩
    have hwl := hw.2.2.1 l hl.1 hl.2
    obtain ⟨l1, l2, l3, l4⟩ := h.L hl.1 hl.2
    rcases hc with ⟨e1, e2⟩ | ⟨e1, e2⟩
    · obtain ⟨k, kk, ke⟩ := hwl.2.2.2.1
      rw [e1] at kk ke
      refine ⟨k, kk.1, by rw [p4.2.2.2]; exact kk.2, ?_⟩
      have e6 : tm_v m (tm_v m (rP m a) 6) k = rL m (n_a s (4 * a + k)) := p6 k kk.1 kk.2
      rw [e6, ke]
      unfold oth
      rw [l2, l3, e1, if_pos rfl, e2]
    · obtain ⟨k, kk, ke⟩ := hwl.2.2.2.2
      rw [e2] at kk ke
      refine ⟨k, kk.1, by rw [p4.2.2.2]; exact kk.2, ?_⟩
      have e6 : tm_v m (tm_v m (rP m a) 6) k = rL m (n_a s (4 * a + k)) := p6 k kk.1 kk.2
      rw [e6, ke]
      unfold oth
      rw [l2, l3, e1, if_neg (fun q => hne (h.inj a0 a1 b0 b1 q))]
/-- a: the place that the lane comes from, -1 if none -/
noncomputable def p_free (s : TN) (t : TK) (a : Int) : EX Int :=
  if ¬ nmT t then .error (wrg t) else if p_nm s (kva t) < 0 then .error (3, kfr t) else if a = p_nm s (kva t) then .error (5, kfr t) else if n_d s (p_nm s (kva t)) = 4 then .error (6, kfr t) else
  @ite _ (0 ≤ a ∧ dup s a (p_nm s (kva t))) (Classical.propDecidable _) (.error (6, kfr t)) (.ok (p_nm s (kva t)))
def q_free (μ : tm_M) (r : EX Int) : tQ := fun o μ1 => match r with
  | .error e => isE μ e o μ1
  | .ok p => o = .inl (some (2, rP μ p)) ∧ μ1 = μ
theorem pX2_free (hd : 8 ≤ d) (hs : tS μ) (hX : c_X μ) (ht : hasC μ t) (ho : okT t) (hwt : wrdT (c_tx μ) t) (h0 : 0 ≤ kfr t) (h1 : kfr t ≤ ken t) (h2 : ken t ≤ tm_v μ 4 2) (hz : 104 ≤ z) (hJ : JR z (c_tx μ) μ s) (hw : wfT s) (ha : a = -1 ∨ (0 ≤ a ∧ a < n_p s)) : tC mX2_free d 0 0 [(2, 4), (2, if a < 0 then 0 else rP μ a)] μ (q_free μ (p_free s t a)) := by
  obtain ⟨⟨jT, jPA, jLA, jFA⟩, j2, -⟩ := id hJ
  have hp8 := hw.1.1
  refine tC_of rfl (Nat.le_of_ble_eq_true rfl) (rX2_free_0 hs ?_)
  refine rcl_of (d' := d - 1) (pX2_name (by omega) hs hX ht ho hwt h0 h1 h2) (by omega) (Nat.le_refl _) (Nat.le_refl _) (fun o μ1 q => ?_)
  rcases q with ⟨hN, rfl, rfl⟩ | ⟨hN, rfl, hE⟩
  · have k4 : kso t ≠ 4 := by have := hN.1; omega
    have eN := JR_nm hJ hN hwt
    refine Or.inl ⟨_, rfl, hs, ⟨by have := (jT.o hz).1.1; exact this, jT.2⟩, ?_⟩
    refine rcl_of (d' := d - 1) (pX4_named (x := rT μ1) (v := nmC (c_tx μ1) t) hs ⟨(jT.o hz).1.1, jT.2⟩ ⟨(jPA.1.o hz).1.1, jPA.1.2⟩ jPA.2 (by rw [j2.1]; exact hp8) (fun k k0 k1 => ((hJ.P k0 (by rw [j2.1] at k1; exact k1)).1.o hz).1)) (by omega) (Nat.le_refl _) (Nat.le_refl _) (fun o μ3 q => ?_)
    obtain ⟨rfl, q⟩ := q
    rw [eN] at q
    rcases q with ⟨q1, rfl⟩ | ⟨q1, rfl⟩
    · refine Or.inl ⟨0, rfl, hs, fun c => by omega, fun _ => r_fail (by omega) hs (Nat.le_refl _) (Nat.le_refl _) (fun x hx => by cases hx) ?_⟩
      have hp : p_free s t a = .error (3, kfr t) := by unfold p_free; rw [if_neg (fun q => q hN), if_pos (by omega)]
      rw [hp]
      exact isE_k hs ht ho k4
    · have hpn : p_nm s (kva t) < n_p s := by
        have := fdn_spec (c := fun p => n_m s p = kva t) (e := -1) (n_p s).toNat 0
        unfold p_nm at q1 ⊢
        rcases this with z1 | z1 <;> omega
      have hPP := hJ.P q1 hpn
      have h1P : 1 ≤ rP μ3 (p_nm s (kva t)) := (hPP.1.o hz).1.1
      refine Or.inl ⟨rP μ3 (p_nm s (kva t)), rfl, hs, fun _ => ⟨fun c => ?_, fun c => r_fail (by omega) hs (Nat.le_refl _) (Nat.le_refl _) (fun x hx => by cases hx) ?_⟩, fun c => by omega⟩
      · have hna : a ≠ p_nm s (kva t) := by
          intro e
          rw [if_neg (by omega), e] at c
          exact c rfl
        have r6 : (n_d s (p_nm s (kva t)) = 4 ∨ (0 ≤ a ∧ dup s a (p_nm s (kva t)))) → tH mX2_free d 0 0 (tq (q_free μ3 (p_free s t a)) 0 0) 53 [(0, 2, 4)] [] μ3 (0 + 0 + 0) (0 + 0 + 0) := by
          intro c6
          have hp : p_free s t a = .error (6, kfr t) := by
            unfold p_free
            rw [if_neg (fun q => q hN), if_neg (by omega), if_neg hna]
            by_cases c7 : n_d s (p_nm s (kva t)) = 4
            · rw [if_pos c7]
            · rw [if_neg c7, if_pos (c6.resolve_left c7)]
          refine rX2_free_53 hs (r_fail (by omega) hs (Nat.le_refl _) (Nat.le_refl _) (fun x hx => by cases hx) ?_)
          rw [hp]
          exact isE_k hs ht ho k4
        have rok : n_d s (p_nm s (kva t)) ≠ 4 → ¬ (0 ≤ a ∧ dup s a (p_nm s (kva t))) → tH mX2_free d 0 0 (tq (q_free μ3 (p_free s t a)) 0 0) 60 [(2, 2, rP μ3 (p_nm s (kva t)))] [] μ3 (0 + 0 + 0) (0 + 0 + 0) := by
          intro c6 c7
          have hp : p_free s t a = .ok (p_nm s (kva t)) := by
            unfold p_free
            rw [if_neg (fun q => q hN), if_neg (by omega), if_neg hna, if_neg c6, if_neg c7]
          refine rX2_free_60 hs ⟨by decide, ?_⟩
          rw [hp]
          exact ⟨rfl, rfl⟩
        refine ⟨⟨h1P, hPP.1.2⟩, fun c6 => r6 (Or.inl (by rw [← hPP.2.2.2.1.2.2.2]; exact c6)), fun c6 => ⟨fun c7 => ?_, fun c7 => ?_⟩⟩
        · refine rok (by rw [← hPP.2.2.2.1.2.2.2]; exact c6) (fun q => ?_)
          rw [if_neg (by omega)] at c7
          have := (((hJ.P q.1 (by omega)).1).o hz).1.1
          omega
        · have ha0 : 0 ≤ a := by
            by_cases q : a < 0
            · rw [if_pos q] at c7; omega
            · omega
          have ha1 : a < n_p s := by omega
          rw [if_neg (by omega)]
          have hA := hJ.P ha0 ha1
          refine ⟨⟨(hA.1.o hz).1.1, hA.1.2⟩, ?_⟩
          refine rcl_of (d' := d - 1) (pX7_leads (by omega) hs ⟨(hA.1.o hz).1.1, hA.1.2⟩ ⟨(hA.2.2.2.2.1.1.o hz).1.1, hA.2.2.2.2.1.1.2⟩ hA.2.2.2.2.1.2.1 (by rw [hA.2.2.2.1.2.2.2]; exact (hw.2.1 a ha0 ha1).1) (fun k k0 k1 => ?_)) (by omega) (Nat.le_refl _) (Nat.le_refl _) (fun o μ14 q => ?_)
          · rw [hA.2.2.2.1.2.2.2] at k1
            have e6 : tm_v μ3 (tm_v μ3 (rP μ3 a) 6) k = rL μ3 (n_a s (4 * a + k)) := hA.2.2.2.2.2 k k0 k1
            rw [e6]
            have c1 := ((hw.2.1 a ha0 ha1).2.2.2.2 k k0 k1).1
            exact (hJ.L c1.1 c1.2).1.o hz
          · obtain ⟨rfl, q⟩ := q
            have hld := led_dup hJ hw ha0 ha1 q1 hpn hna
            rcases q with ⟨q, rfl⟩ | ⟨q, rfl⟩
            · exact Or.inl ⟨1, rfl, hs, fun c => absurd c (by decide), fun _ => r6 (Or.inr ⟨ha0, hld.mp q⟩)⟩
            · exact Or.inl ⟨0, rfl, hs, fun _ => rok (by rw [← hPP.2.2.2.1.2.2.2]; exact c6) (fun z1 => q (hld.mpr z1.2)), fun c => absurd rfl c⟩
      · have hna : a = p_nm s (kva t) := by
          by_cases q : a < 0
          · rw [if_pos q] at c; omega
          · rw [if_neg q] at c
            exact (hJ.inj q1 hpn (by omega) (by omega) c).symm
        have hp : p_free s t a = .error (5, kfr t) := by unfold p_free; rw [if_neg (fun q => q hN), if_neg (by omega), if_pos hna]
        rw [hp]
        exact isE_k hs ht ho k4
  · refine Or.inr ⟨3, rfl, t_leave (fun x hx => by cases hx) (Nat.le_refl _) (Nat.le_refl _) ?_⟩
    have hp : p_free s t a = .error (wrg t) := by unfold p_free; rw [if_pos hN]
    rw [hp]
    exact ⟨rfl, hE⟩
end C0FR
