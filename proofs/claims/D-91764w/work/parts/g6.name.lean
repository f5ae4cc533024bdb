/-! names: letters in base 256 -/
theorem l_or8 {v c : Int} (hv : 0 ≤ v) (hv2 : v < 36028797018963968) (hc : 0 ≤ c) (hc2 : c < 256) : l_or (v * 256) c = v * 256 + c := by
  obtain ⟨n, rfl⟩ : ∃ n : Nat, v = (n : Int) := ⟨v.toNat, by omega⟩
  obtain ⟨m, rfl⟩ : ∃ m : Nat, c = (m : Int) := ⟨c.toNat, by omega⟩
  have h1 : (n * 256 ||| m : Nat) = n * 256 + m := by
    have := Nat.two_pow_add_eq_or_of_lt (i := 8) (b := m) (by omega) n
    rw [show (2 : Nat) ^ 8 = 256 by decide, Nat.mul_comm 256 n] at this
    exact this.symm
  have t1 : (BitVec.ofInt 64 ((n : Int) * 256)).toNat = n * 256 := by
    rw [BitVec.toNat_ofInt, show ((n : Int) * 256) % ((2 ^ 64 : Nat) : Int) = ((n * 256 : Nat) : Int) by rw [Int.emod_eq_of_lt (by omega) (by omega)]; omega]
    exact Int.toNat_natCast _
  have t2 : (BitVec.ofInt 64 (m : Int)).toNat = m := by
    rw [BitVec.toNat_ofInt, Int.emod_eq_of_lt (by omega) (by omega)]
    exact Int.toNat_natCast _
  unfold l_or
  show (Int64.ofInt ((n : Int) * 256) ||| Int64.ofInt (m : Int)).toBitVec.toInt = _
  rw [Int64.toBitVec_or, Int64.toBitVec_ofInt, Int64.toBitVec_ofInt, BitVec.toInt_eq_toNat_of_lt (by rw [BitVec.toNat_or, t1, t2, h1]; omega), BitVec.toNat_or, t1, t2, h1]
  omega
theorem l_sh8 {v : Int} (hv : 0 ≤ v) (hv2 : v < 36028797018963968) : l_shl v 8 = v * 256 := by
  unfold l_shl
  have h1 : (Int32.ofInt 8).toInt64 &&& 63 = (8 : Int64) := by decide
  rw [h1, (shl64 v).1]
  exact w64_id (by omega) (by omega)
def nmv (tx : Int → Int) (a : Int) : Nat → Int
  | 0 => 0
  | k + 1 => nmv tx a k * 256 + tx (a + k)
def bn : Nat → Int
  | 0 => 0
  | k + 1 => bn k * 256 + 122
theorem bn_in : ∀ k : Fin 8, bn k.val < 36028797018963968 := by decide +kernel
theorem nmv_in {tx : Int → Int} {a : Int} : ∀ m : Nat, ltr tx a m → 0 ≤ nmv tx a m ∧ nmv tx a m ≤ bn m ∧ (0 < m → 0 < nmv tx a m) := by
  intro m
  induction m with
  | zero => intro _; simp [nmv, bn]
  | succ m ih =>
    intro h
    have h1 := ih (fun i hi => h i (by omega))
    have h2 := h m (by omega)
    rw [nmv, bn]
    omega
theorem nmv_inj {tx tx' : Int → Int} {a a' : Int} : ∀ m m' : Nat, ltr tx a m → ltr tx' a' m' → nmv tx a m = nmv tx' a' m' → m = m' ∧ ∀ i : Nat, i < m → tx (a + i) = tx' (a' + i) := by
  intro m
  induction m with
  | zero =>
    intro m' h h' e
    have h1 := nmv_in m' h'
    rw [nmv] at e
    refine ⟨?_, fun i hi => by omega⟩
    by_cases q : 0 < m'
    · have := h1.2.2 q; omega
    · omega
  | succ m ih =>
    intro m' h h' e
    have h0 := nmv_in (m + 1) h
    cases m' with
    | zero =>
      have h9 := h0.2.2 (by omega)
      rw [e] at h9
      exact absurd h9 (by show ¬ (0 : Int) < 0; decide)
    | succ m' =>
      have a1 := h m (by omega)
      have a2 := h' m' (by omega)
      rw [nmv, nmv] at e
      have e1 : nmv tx a m = nmv tx' a' m' := by omega
      have e2 : tx (a + m) = tx' (a' + m') := by omega
      obtain ⟨c1, c2⟩ := ih m' (fun i hi => h i (by omega)) (fun i hi => h' i (by omega)) e1
      subst c1
      refine ⟨rfl, fun i hi => ?_⟩
      by_cases q : i = m
      · rw [q]; exact e2
      · exact c2 i (by omega)
theorem nmv_congr {tx tx' : Int → Int} {a a' : Int} : ∀ m : Nat, (∀ i : Nat, i < m → tx (a + i) = tx' (a' + i)) → nmv tx a m = nmv tx' a' m := by
  intro m
  induction m with
  | zero => intro _; rfl
  | succ m ih =>
    intro h
    rw [nmv, nmv, ih (fun i hi => h i (by omega)), h m (by omega)]
/-- the component's names are told apart as the model's -/
theorem nm_iff {tx tx' : Int → Int} {a a' : Int} {m m' : Nat} (h8 : m ≤ 8) (h8' : m' ≤ 8) (h : ltr tx a m) (h' : ltr tx' a' m') : nmv tx a m = nmv tx' a' m' ↔ wd tx a m = wd tx' a' m' := by
  constructor
  · intro e
    obtain ⟨rfl, c⟩ := nmv_inj m m' h h' e
    exact wd_congr m c
  · intro e
    obtain ⟨rfl, c⟩ := wd_inj m m' h8 h8' h h' e
    exact nmv_congr m c
section C0NM
variable {d : Nat} {μ : tm_M} {t : TK}
def nmC (tx : Int → Int) (t : TK) : Int := nmv tx (kfr t) (ken t - kfr t).toNat
theorem nmT_iff (h : kso t = 1) (h8 : ken t - kfr t ≤ 8) : nmT t ↔ kyT t = -1 := by
  unfold kyT kyW
  rw [if_pos h]
  constructor
  · rintro ⟨-, -, c1, c2, c3, c4, c5, c6, c7, c8, c9⟩
    rw [if_neg c4, if_neg c5, if_neg c7, if_neg c8, if_neg c9, if_neg c1, if_neg c2, if_neg c3, if_neg c6]
  · intro q
    refine ⟨h, h8, ?_, ?_, ?_, ?_, ?_, ?_, ?_, ?_, ?_⟩ <;> (intro e; rw [e] at q; exact absurd q (by decide))
def q_name (μ : tm_M) (t : TK) : tQ := fun o μ1 => (nmT t ∧ o = .inl (some (1, nmC (c_tx μ) t)) ∧ μ1 = μ) ∨ (¬ nmT t ∧ isE μ (wrg t) o μ1)
theorem pX2_name (hd : 6 ≤ d) (hs : tS μ) (hX : c_X μ) (ht : hasC μ t) (ho : okT t) (hwt : wrdT (c_tx μ) t) (h0 : 0 ≤ kfr t) (h1 : kfr t ≤ ken t) (h2 : ken t ≤ tm_v μ 4 2) : tC mX2_name d 0 0 [(2, 4)] μ (q_name μ t) := by
  have hn := hX.2
  have e3 : tm_v μ 4 3 = 2 ↔ kso t = 1 := by rw [ht.1]; exact cso_eq (c := 1) ho.1 ho.2 (by decide) (by decide)
  have e4 : tm_v μ 4 4 = kfr t := ht.2.1
  have e5 : tm_v μ 4 5 = ken t := ht.2.2.1
  have txr : ∀ e, 0 ≤ c_tx μ e ∧ c_tx μ e ≤ 255 := by intro e; unfold c_tx; omega
  have loop : nmT t → ∀ (f : Nat) (i : Int), (f : Int) = ken t - i → kfr t ≤ i → tH mX2_name d 0 0 (tq (q_name μ t) 0 0) 46 [(0, 2, 4), (1, 1, nmv (c_tx μ) (kfr t) (i - kfr t).toNat), (3, 0, i)] [] μ 0 0 := by
    intro hN f
    have hlt := (hwt hN.1).2.1
    induction f with
    | zero =>
      intro i hf hi
      have : i = ken t := by omega
      subst this
      exact rX2_name_46 hs ⟨fun _ => ⟨by decide, Or.inl ⟨hN, rfl, rfl⟩⟩, fun c => by omega⟩
    | succ f ih =>
      intro i hf hi
      refine rX2_name_46 hs ⟨fun c => by omega, fun c => ?_⟩
      refine r_q (d' := 0) (A := fun r μ1 nc1 ns1 => tS μ1 ∧ _) (pX2_at hs hX (by omega)) (by omega) (Nat.le_refl _) (Nat.le_refl _) ⟨hs, ?_⟩
      have h8 := hN.2.1
      have hb := nmv_in (tx := c_tx μ) (a := kfr t) (i - kfr t).toNat (fun j hj => hlt j (by omega))
      have hbn := bn_in ⟨(i - kfr t).toNat, by omega⟩
      dsimp only at hbn
      have ti := txr i
      have ea : c_at μ i = c_tx μ i := by unfold c_at; rw [if_pos (by omega)]
      rw [ea, l_sh8 hb.1 (by omega), l_or8 hb.1 (by omega) ti.1 (by omega), w32_id (x := i + 1) (by omega) (by omega)]
      rintro x5 rfl
      have := ih (i + 1) (by omega) (by omega)
      rw [show (i + 1 - kfr t).toNat = (i - kfr t).toNat + 1 by omega, nmv, show kfr t + ((i - kfr t).toNat : Int) = i by omega] at this
      exact this
  have bad : ∀ pc, ¬ nmT t → rcl mX2_need [(2, 4), (0, 0)] μ d 0 0 0 0 (fun o3 μ3 nc3 ns3 => rkV o3 (tS μ3 ∧ ((∀ x4, x4 = tm_v μ3 4 4 → tH mX2_name d 0 0 (tq (q_name μ t) 0 0) 46 [(0, 2, 4), (1, 1, 0), (3, 0, x4)] [] μ3 nc3 ns3))) (fun a => tT mX2_name d 0 0 (tq (q_name μ t) 0 0) pc [(0, 2, 4)] a μ3 nc3 ns3)) := by
    intro pc hN
    refine rcl_of (d' := d - 1) (pX2_need (b := 0) (by omega) hs) (by omega) (Nat.le_refl _) (Nat.le_refl _) (fun o μ1 q => ?_)
    rcases q with ⟨q, -⟩ | ⟨-, rfl, rfl⟩
    · exact absurd rfl q
    · exact Or.inr ⟨3, rfl, t_leave (fun x hx => by cases hx) (Nat.le_refl _) (Nat.le_refl _) (Or.inr ⟨hN, isE_2 hs ht ho⟩)⟩
  refine tC_of rfl (Nat.le_of_ble_eq_true rfl) (rX2_name_0 hs ⟨fun c => bad _ (fun q => c (e3.mpr q.1)), fun c => ?_⟩)
  have k1 := e3.mp c
  rw [e4, e5, w32_id (x := ken t - kfr t) (by omega) (by omega)]
  refine ⟨fun c1 => bad _ (fun q => by have := q.2.1; omega), fun c1 => ?_⟩
  refine r_q (d' := d - 1) (A := fun r μ1 nc1 ns1 => tS μ1 ∧ _) (pX2_key (by omega) hs hX ht ho hwt h0 h1 h2) (by omega) (Nat.le_refl _) (Nat.le_refl _) ⟨hs, fun c2 => bad _ (fun q => c2 ((nmT_iff k1 c1).mp q)), fun c2 => ?_⟩
  have hN := (nmT_iff k1 c1).mpr c2
  refine rcl_of (d' := d - 1) (pX2_need (b := 1) (by omega) hs) (by omega) (Nat.le_refl _) (Nat.le_refl _) (fun o μ1 q => ?_)
  rcases q with ⟨-, rfl, rfl⟩ | ⟨q, -⟩
  · refine Or.inl ⟨rfl, hs, ?_⟩
    rintro x15 rfl
    have := loop hN (ken t - kfr t).toNat (kfr t) (by omega) (Int.le_refl _)
    rw [show (kfr t - kfr t).toNat = 0 by omega, nmv] at this
    rw [e4]
    exact this
  · exact absurd q (by decide)
end C0NM
