/-! CONTRACTS of the component: what the reader finds wrong -/
section C0ND
variable {d mc ms nc ns : Nat} {μ μ0 : tm_M} {k x b lo hi : Int} {t : TK}
abbrev wRx : Int → Int → Prop := tWs [] [(4, 3), (4, 4), (4, 5), (4, 6), (3, 6), (3, 7)]
/-- the memory behind fail -/
def wrc (μ : tm_M) (k : Int) : tm_M := tm_w (tm_w μ 3 6 (if tm_v μ 4 3 = 1 then 1 else k)) 3 7 (tm_v μ 4 4)
theorem wrc_F (hs : tS μ) : tFr wRx μ (wrc μ k) := by
  have s1 : tS (tm_w μ 3 6 (if tm_v μ 4 3 = 1 then 1 else k)) := tS_w hs sf_3 _ _
  exact ((tFr.rf hs).w (tWs_inF rfl) s1).w (tWs_inF rfl) (tS_w s1 sf_3 _ _)
theorem wrc_6 : tm_v (wrc μ k) 3 6 = if tm_v μ 4 3 = 1 then 1 else k := by unfold wrc; rw [tm_vw, if_neg (by omega), tm_vw, if_pos ⟨rfl, rfl⟩]
theorem wrc_7 : tm_v (wrc μ k) 3 7 = tm_v μ 4 4 := by unfold wrc; rw [tm_vw, if_pos ⟨rfl, rfl⟩]
theorem pX1_of (hs : tS μ) : tC mX1_of d 0 0 [(2, 3), (0, k), (0, x)] μ (fun o μ1 => o = .inl (some (2, 3)) ∧ μ1 = tm_w (tm_w μ 3 6 k) 3 7 x) := by
  refine tC_of rfl (Nat.le_of_ble_eq_true rfl) (rX1_of_0 hs ?_)
  rintro μ1 rfl
  refine ⟨tS_w hs sf_3 _ _, ?_⟩
  rintro μ2 rfl
  exact ⟨tS_w (tS_w hs sf_3 _ _) sf_3 _ _, by decide, rfl, rfl⟩
theorem pX2_fail (hd : 1 ≤ d) (hs : tS μ) : tC mX2_fail d 0 0 [(2, 4), (0, k)] μ (fun o μ1 => o = .inl (some (2, 3)) ∧ μ1 = wrc μ k) := by
  have go : ∀ y, y = (if tm_v μ 4 3 = 1 then 1 else k) → ∀ pc, rcl mX1_of [(2, 3), (0, y), (0, tm_v μ 4 4)] μ d 0 0 0 0 (fun o3 μ3 nc3 ns3 => rk 2 o3 (fun r3 => tS μ3 ∧ ((nc3 ≤ 0 ∧ ns3 ≤ 0) ∧ ((fun o μ1 => o = .inl (some (2, 3)) ∧ μ1 = wrc μ k : tQ) (.inl (some (2, r3))) μ3))) (fun a => tT mX2_fail d 0 0 (tq (fun o μ1 => o = .inl (some (2, 3)) ∧ μ1 = wrc μ k) 0 0) pc [(0, 2, 4), (1, 0, k)] a μ3 nc3 ns3)) := by
    intro y hy pc
    refine rcl_of (d' := 0) (pX1_of hs) hd (Nat.le_refl _) (Nat.le_refl _) (fun o μ1 q => ?_)
    obtain ⟨rfl, rfl⟩ := q
    refine Or.inl ⟨3, rfl, tS_w (tS_w hs sf_3 _ _) sf_3 _ _, by decide, rfl, ?_⟩
    rw [hy]
    rfl
  exact tC_of rfl (Nat.le_of_ble_eq_true rfl) (rX2_fail_0 hs ⟨fun c => go k (by rw [if_neg c]) _, fun c => go 1 (by rw [if_pos c]) _⟩)
/-- fail, and throw -/
theorem r_fail {M : tM} {L : tLs} {pc pc2 : Nat} {Q : tQ} (hd : 2 ≤ d) (hs : tS μ) (h1 : nc ≤ mc) (h2 : ns ≤ ms) (hh : ∀ x ∈ M.2.2.2.2, ¬ (x.1 ≤ pc ∧ pc < x.2.1)) (hq : Q (.inr 3) (wrc μ k)) :
    rcl mX2_fail [(2, 4), (0, k)] μ d mc ms nc ns (fun o μ1 nc1 ns1 => rk 2 o (fun r => tS μ1 ∧ ((1 ≤ r ∧ tm_k μ1 r = 1) ∧ (tT M d mc ms (tq Q mc ms) pc L r μ1 nc1 ns1))) (fun a => tT M d mc ms (tq Q mc ms) pc2 L a μ1 nc1 ns1)) := by
  refine rcl_of (d' := d - 1) (pX2_fail (by omega) hs) (by omega) (by omega) (by omega) (fun o μ1 q => ?_)
  obtain ⟨rfl, rfl⟩ := q
  have s1 : tS (wrc μ k) := (wrc_F hs).S
  exact Or.inl ⟨3, rfl, s1, ⟨by decide, sk_3 s1⟩, t_leave hh h1 h2 hq⟩
def q_need (μ : tm_M) (b : Int) : tQ := fun o μ1 => (b ≠ 0 ∧ o = .inl none ∧ μ1 = μ) ∨ (b = 0 ∧ o = .inr 3 ∧ μ1 = wrc μ 2)
theorem pX2_need (hd : 2 ≤ d) (hs : tS μ) : tC mX2_need d 0 0 [(2, 4), (0, b)] μ (q_need μ b) :=
  tC_of rfl (Nat.le_of_ble_eq_true rfl) (rX2_need_0 hs ⟨fun c => ⟨by decide, Or.inl ⟨c, rfl, rfl⟩⟩, fun c => r_fail hd hs (Nat.le_refl _) (Nat.le_refl _) (fun x hx => by cases hx) (Or.inr ⟨c, rfl, rfl⟩)⟩)
/-- an error is on its way: its kind and place stand in cell 3 -/
def isE (μ : tm_M) (e : Int × Int) : tQ := fun o μ1 => o = .inr 3 ∧ tFr wRx μ μ1 ∧ tm_v μ1 3 6 = e.1 ∧ tm_v μ1 3 7 = e.2
theorem tok_so (tx : Int → Int) (n b : Int) : 0 ≤ kso (tok tx n b) ∧ kso (tok tx n b) ≤ 4 := by
  unfold tok tokA
  split
  · exact ⟨by show (0 : Int) ≤ 0; decide, by show (0 : Int) ≤ 4; decide⟩
  · split
    · exact ⟨by show (0 : Int) ≤ 1; decide, by show (1 : Int) ≤ 4; decide⟩
    · split
      · simp only [kso]; split <;> omega
      · simp only [kso]; split <;> omega
theorem cso_1 {s : Int} (h0 : 0 ≤ s) (h4 : s ≤ 4) : cso s = 1 ↔ s = 4 := by
  unfold cso
  rcases (show s = 0 ∨ s = 1 ∨ s = 2 ∨ s = 3 ∨ s = 4 by omega) with rfl | rfl | rfl | rfl | rfl <;> decide
theorem cso_eq {s c : Int} (h0 : 0 ≤ s) (h4 : s ≤ 4) (hc : 0 ≤ c) (hc4 : c ≤ 4) : cso s = cso c ↔ s = c := by
  unfold cso
  rcases (show s = 0 ∨ s = 1 ∨ s = 2 ∨ s = 3 ∨ s = 4 by omega) with rfl | rfl | rfl | rfl | rfl <;> rcases (show c = 0 ∨ c = 1 ∨ c = 2 ∨ c = 3 ∨ c = 4 by omega) with rfl | rfl | rfl | rfl | rfl <;> decide
/-- a token as the reader has them -/
def okT (t : TK) : Prop := 0 ≤ kso t ∧ kso t ≤ 4
theorem isE_2 (hs : tS μ) (ht : hasC μ t) (ho : okT t) : isE μ (wrg t) (.inr 3) (wrc μ 2) := by
  refine ⟨rfl, wrc_F hs, ?_, ?_⟩
  · rw [wrc_6, ht.1]
    show _ = if kso t = 4 then 1 else 2
    by_cases c : kso t = 4
    · rw [if_pos ((cso_1 ho.1 ho.2).mpr c), if_pos c]
    · rw [if_neg (fun q => c ((cso_1 ho.1 ho.2).mp q)), if_neg c]
  · rw [wrc_7]; exact ht.2.1
theorem isE_k (hs : tS μ) (ht : hasC μ t) (ho : okT t) (h4 : kso t ≠ 4) : isE μ (k, kfr t) (.inr 3) (wrc μ k) := by
  refine ⟨rfl, wrc_F hs, ?_, ?_⟩
  · rw [wrc_6, ht.1, if_neg (fun q => h4 ((cso_1 ho.1 ho.2).mp q))]
  · rw [wrc_7]; exact ht.2.1
theorem wRd_x {m : tm_M} (h : tFr wRd μ m) : tFr wRx μ m := ⟨h.S, h.z, h.k, h.n, fun a j hw => h.v (fun q => hw (tWs_sub rfl a j q))⟩
def q_cnt (μ : tm_M) (r : EX (Int × TK)) : tQ := fun o μ1 => match r with
  | .error e => isE μ e o μ1
  | .ok (v, t') => o = .inl (some (0, v)) ∧ tFr wRd μ μ1 ∧ hasC μ1 t'
theorem pX2_passed (hd : 3 ≤ d) (hs : tS μ) (hX : c_X μ) (ht : hasC μ t) (ho : okT t) (hb : 0 ≤ ken t ∧ ken t ≤ tm_v μ 4 2) : tC mX2_passed d 0 0 [(2, 4), (0, lo), (0, hi)] μ (q_cnt μ (p_cnt (c_tx μ) (tm_v μ 4 2) t lo hi)) := by
  have e3 : tm_v μ 4 3 = 3 ↔ kso t = 2 := by rw [ht.1]; exact cso_eq (c := 2) ho.1 ho.2 (by decide) (by decide)
  refine tC_of rfl (Nat.le_of_ble_eq_true rfl) (rX2_passed_0 hs ⟨fun c => ?_, fun c => ?_⟩)
  · have hp : p_cnt (c_tx μ) (tm_v μ 4 2) t lo hi = .error (wrg t) := by unfold p_cnt; rw [if_pos (fun q => c (e3.mpr q))]
    refine rcl_of (d' := d - 1) (pX2_need (b := 0) (by omega) hs) (by omega) (Nat.le_refl _) (Nat.le_refl _) (fun o μ1 q => ?_)
    rcases q with ⟨q, -⟩ | ⟨-, rfl, rfl⟩
    · exact absurd rfl q
    · refine Or.inr ⟨3, rfl, t_leave (fun x hx => by cases hx) (Nat.le_refl _) (Nat.le_refl _) ?_⟩
      rw [hp]
      exact isE_2 hs ht ho
  · have k2 := e3.mp c
    have v6 : tm_v μ 4 6 = kva t := ht.2.2.2 k2
    refine rcl_of (d' := d - 1) (pX2_need (b := 1) (by omega) hs) (by omega) (Nat.le_refl _) (Nat.le_refl _) (fun o μ1 q => ?_)
    rcases q with ⟨-, rfl, rfl⟩ | ⟨q, -⟩
    · have bad : ¬ (lo ≤ kva t ∧ kva t ≤ hi) → tH mX2_passed d 0 0 (tq (q_cnt μ1 (p_cnt (c_tx μ1) (tm_v μ1 4 2) t lo hi)) 0 0) 33 [(0, 2, 4)] [] μ1 (0 + 0) (0 + 0) := by
        intro c1
        have hp : p_cnt (c_tx μ1) (tm_v μ1 4 2) t lo hi = .error (4, kfr t) := by unfold p_cnt; rw [if_neg (fun q => q k2), if_pos c1]
        refine rX2_passed_33 hs (r_fail (by omega) hs (Nat.le_refl _) (Nat.le_refl _) (fun x hx => by cases hx) ?_)
        rw [hp]
        exact isE_k hs ht ho (by omega)
      refine Or.inl ⟨rfl, hs, fun c1 => bad (by omega), fun c1 => ⟨fun c2 => ?_, fun c2 => bad (by omega)⟩⟩
      rintro x8 rfl
      have hp : p_cnt (c_tx μ1) (tm_v μ1 4 2) t lo hi = .ok (kva t, tok (c_tx μ1) (tm_v μ1 4 2) (ken t)) := by unfold p_cnt; rw [if_neg (fun q => q k2), if_neg (fun q => q (by omega))]
      refine rcl_of (d' := d - 1) (pX2_next (by omega) hs hX (by rw [ht.2.2.1]; exact hb)) (by omega) (Nat.le_refl _) (Nat.le_refl _) (fun o m q => ?_)
      obtain ⟨rfl, q1, q2⟩ := q
      refine Or.inl ⟨rfl, q1.S, by decide, ?_⟩
      rw [hp, v6]
      refine ⟨rfl, q1, ?_⟩
      rw [ht.2.2.1] at q2
      exact q2
    · exact absurd q (by decide)
end C0ND
