/-! PURE: words and their codes -/
def ltr (tx : Int → Int) (a : Int) (m : Nat) : Prop := ∀ i : Nat, i < m → 97 ≤ tx (a + i) ∧ tx (a + i) ≤ 122
theorem wd_s {tx : Int → Int} {a : Int} {m : Nat} (h : m < 8) : wd tx a (m + 1) = wd tx a m * 32 + tx (a + m) - 96 := by rw [wd, if_pos h]
theorem wd_0 {tx : Int → Int} {a : Int} : ∀ m : Nat, m ≤ 8 → ltr tx a m → 0 ≤ wd tx a m ∧ (0 < m → 0 < wd tx a m) := by
  intro m
  induction m with
  | zero => intro _ _; rw [wd]; omega
  | succ m ih =>
    intro h8 h
    have h1 := ih (by omega) (fun i hi => h i (by omega))
    have h2 := h m (by omega)
    rw [wd_s (by omega)]
    omega
theorem wd_9 {tx : Int → Int} {a : Int} {m : Nat} (h : 8 < m) : wd tx a m = -1 := by
  obtain ⟨k, rfl⟩ : ∃ k, m = k + 1 := ⟨m - 1, by omega⟩
  rw [wd, if_neg (by omega)]
theorem wd_inj {tx tx' : Int → Int} {a a' : Int} : ∀ m m' : Nat, m ≤ 8 → m' ≤ 8 → ltr tx a m → ltr tx' a' m' → wd tx a m = wd tx' a' m' → m = m' ∧ ∀ i : Nat, i < m → tx (a + i) = tx' (a' + i) := by
  intro m
  induction m with
  | zero =>
    intro m' h8 h8' h h' e
    have h1 := wd_0 m' h8' h'
    rw [wd] at e
    refine ⟨?_, fun i hi => by omega⟩
    by_cases q : 0 < m'
    · have := h1.2 q; omega
    · omega
  | succ m ih =>
    intro m' h8 h8' h h' e
    have h0 := wd_0 (m + 1) h8 h
    cases m' with
    | zero => rw [wd] at e; omega
    | succ m' =>
      have a1 := h m (by omega)
      have a2 := h' m' (by omega)
      have b1 := (wd_0 m (by omega) (fun i hi => h i (by omega))).1
      have b2 := (wd_0 m' (by omega) (fun i hi => h' i (by omega))).1
      rw [wd_s (by omega), wd_s (by omega)] at e
      have e1 : wd tx a m = wd tx' a' m' := by omega
      have e2 : tx (a + m) = tx' (a' + m') := by omega
      obtain ⟨c1, c2⟩ := ih m' (by omega) (by omega) (fun i hi => h i (by omega)) (fun i hi => h' i (by omega)) e1
      subst c1
      refine ⟨rfl, fun i hi => ?_⟩
      by_cases q : i = m
      · rw [q]; exact e2
      · exact c2 i (by omega)
theorem wd_congr {tx tx' : Int → Int} {a a' : Int} : ∀ m : Nat, (∀ i : Nat, i < m → tx (a + i) = tx' (a' + i)) → wd tx a m = wd tx' a' m := by
  intro m
  induction m with
  | zero => intro _; rfl
  | succ m ih =>
    intro h
    rw [wd, wd, ih (fun i hi => h i (by omega)), h m (by omega)]
theorem rn_let {lo hi : Int} {tx : Int → Int} {n : Int} (f : Nat) : ∀ b, ∀ i, b ≤ i → i < rn lo hi tx n f b → lo ≤ tx i ∧ tx i ≤ hi := by
  induction f with
  | zero => intro b i h1 h2; rw [rn] at h2; omega
  | succ f ih =>
    intro b i h1 h2
    rw [rn] at h2
    split at h2
    · rename_i c
      by_cases q : i = b
      · rw [q]; exact c.2
      · exact ih (b + 1) i (by omega) h2
    · omega
/-- a token that is a word is spelled so -/
def wrdT (tx : Int → Int) (t : TK) : Prop := kso t = 1 → kva t = wd tx (kfr t) (ken t - kfr t).toNat ∧ ltr tx (kfr t) (ken t - kfr t).toNat ∧ kfr t < ken t
theorem tok_word (tx : Int → Int) (n b : Int) : wrdT tx (tok tx n b) := by
  intro h
  unfold tok tokA at h ⊢
  split at h
  · exact absurd h (by show ¬ (0 : Int) = 1; decide)
  · rename_i c1
    rw [if_neg c1]
    split at h
    · rename_i c2
      rw [if_pos c2]
      have h2 := rn_1 (lo := 97) (hi := 122) (tx := tx) (n := n) (b := skp tx n (n - b).toNat b) (by omega)
      refine ⟨rfl, fun i hi => ?_, h2⟩
      refine rn_let (lo := 97) (hi := 122) (tx := tx) (n := n) (n - skp tx n (n - b).toNat b).toNat (skp tx n (n - b).toNat b) _ (by show _ ≤ skp tx n (n - b).toNat b + (i : Int); omega) ?_
      have hi' : i < (rnL tx n (skp tx n (n - b).toNat b) - skp tx n (n - b).toNat b).toNat := hi
      unfold rnL at hi'
      show skp tx n (n - b).toNat b + (i : Int) < _
      omega
    · split at h
      · simp only [kso] at h; split at h <;> omega
      · simp only [kso] at h; split at h <;> omega
def smW (tx : Int → Int) (t : TK) (k e : Int) : Prop := ken t - kfr t = e - k ∧ ∀ i, 0 ≤ i → i < e - k → tx (kfr t + i) = KC (k + i)
theorem smW_code {tx : Int → Int} {t : TK} {k e c : Int} (h : wrdT tx t) (h1 : kso t = 1) (hke : k ≤ e) (h8 : e - k ≤ 8) (hl : ltr KC k (e - k).toNat) (hc : wd KC k (e - k).toNat = c) : smW tx t k e ↔ kva t = c := by
  obtain ⟨a1, a2, a3⟩ := h h1
  have b1 := wd_0 (e - k).toNat (by omega) hl
  rw [a1, ← hc]
  constructor
  · rintro ⟨c1, c2⟩
    rw [c1]
    exact wd_congr _ (fun i hi => c2 i (by omega) (by omega))
  · intro q
    by_cases h9 : (ken t - kfr t).toNat ≤ 8
    · obtain ⟨c1, c2⟩ := wd_inj _ _ h9 (by omega) a2 hl q
      refine ⟨by omega, fun i i0 i1 => ?_⟩
      have := c2 i.toNat (by omega)
      rw [show ((i.toNat : Nat) : Int) = i by omega] at this
      exact this
    · rw [wd_9 (by omega)] at q
      omega
def kyW (w : Int) : Int := if w = 17171557 then 0 else if w = 394693 then 1 else if w = 3751539 then 2 else if w = 635383 then 3 else if w = 8554067 then 4 else if w = 627891 then 5 else if w = 6605428 then 6 else if w = 642891204 then 7 else if w = 655 then 8 else -1
def kyT (t : TK) : Int := if kso t = 1 then kyW (kva t) else -1
/-! CONTRACTS of the component: the key words -/
section C0KY
variable {d : Nat} {μ : tm_M} {k e : Int} {t : TK}
def q_isW (μ : tm_M) (t : TK) (k e : Int) : tQ := fun o μ1 => μ1 = μ ∧ ((smW (c_tx μ) t k e ∧ o = .inl (some (0, 1))) ∨ (¬ smW (c_tx μ) t k e ∧ o = .inl (some (0, 0))))
theorem pX2_isWord (hd : 4 ≤ d) (hs : tS μ) (hX : c_X μ) (ht : hasC μ t) (h0 : 0 ≤ kfr t) (h1 : kfr t ≤ ken t) (h2 : ken t ≤ tm_v μ 4 2) (k0 : 0 ≤ k) (ke : k ≤ e) (e50 : e ≤ 50) : tC mX2_isWord d 0 0 [(2, 4), (0, k), (0, e)] μ (q_isW μ t k e) := by
  have hn := hX.2
  have e4 : tm_v μ 4 4 = kfr t := ht.2.1
  have e5 : tm_v μ 4 5 = ken t := ht.2.2.1
  have loop : ∀ (f : Nat) (i : Int), (f : Int) = e - i → k ≤ i → ken t - kfr t = e - k → (∀ j, 0 ≤ j → j < i - k → c_tx μ (kfr t + j) = KC (k + j)) → tH mX2_isWord d 0 0 (tq (q_isW μ t k e) 0 0) 19 [(0, 2, 4), (1, 0, k), (2, 0, e), (3, 0, i)] [] μ 0 0 := by
    intro f
    induction f with
    | zero =>
      intro i hf hi hl hj
      refine rX2_isWord_19 hs ⟨fun _ => ⟨by decide, rfl, Or.inl ⟨⟨hl, fun j j0 j1 => hj j j0 (by omega)⟩, rfl⟩⟩, fun c => by omega⟩
    | succ f ih =>
      intro i hf hi hl hj
      refine rX2_isWord_19 hs ⟨fun c => by omega, fun c => ⟨⟨hd, by decide⟩, ⟨by omega, by omega⟩, ?_⟩⟩
      rw [e4, w32_id (x := kfr t + i) (by omega) (by omega), w32_id (x := kfr t + i - k) (by omega) (by omega)]
      refine r_q (d' := 0) (A := fun r μ1 nc1 ns1 => tS μ1 ∧ _) (pX2_at hs hX (by omega)) (by omega) (Nat.le_refl _) (Nat.le_refl _) ⟨hs, fun c1 => ?_, fun c1 => ⟨by decide, rfl, Or.inr ⟨fun q => c1 ?_, rfl⟩⟩⟩
      · have ea : c_at μ (kfr t + i - k) = c_tx μ (kfr t + (i - k)) := by unfold c_at; rw [if_pos (by omega), show kfr t + i - k = kfr t + (i - k) by omega]
        rw [w32_id (x := i + 1) (by omega) (by omega)]
        refine ih (i + 1) (by omega) (by omega) hl (fun j j0 j1 => ?_)
        by_cases q : j = i - k
        · rw [q, ← ea, ← c1, show k + (i - k) = i by omega]
        · exact hj j j0 (by omega)
      · have ea : c_at μ (kfr t + i - k) = c_tx μ (kfr t + (i - k)) := by unfold c_at; rw [if_pos (by omega), show kfr t + i - k = kfr t + (i - k) by omega]
        have := q.2 (i - k) (by omega) (by omega)
        rw [ea, this, show k + (i - k) = i by omega]
  refine tC_of rfl (Nat.le_of_ble_eq_true rfl) (rX2_isWord_0 hs ?_)
  rw [e4, e5, w32_id (x := e - k) (by omega) (by omega), w32_id (x := ken t - kfr t) (by omega) (by omega)]
  exact ⟨fun c => loop (e - k).toNat k (by omega) (Int.le_refl _) c.symm (fun j j0 j1 => by omega), fun c => ⟨by decide, rfl, Or.inr ⟨fun q => c q.1.symm, rfl⟩⟩⟩
theorem pX2_key (hd : 5 ≤ d) (hs : tS μ) (hX : c_X μ) (ht : hasC μ t) (ho : okT t) (hwt : wrdT (c_tx μ) t) (h0 : 0 ≤ kfr t) (h1 : kfr t ≤ ken t) (h2 : ken t ≤ tm_v μ 4 2) : tC mX2_key d 0 0 [(2, 4)] μ (q_is μ (kyT t)) := by
  have e3 : tm_v μ 4 3 = 2 ↔ kso t = 1 := by rw [ht.1]; exact cso_eq (c := 1) ho.1 ho.2 (by decide) (by decide)
  have step : ∀ (q k e : Int), 0 ≤ q → q ≤ 8 → 0 ≤ k → k ≤ e → e < 50 → (∀ j, k ≤ j → j < e → KC j ≠ 32) → KC e = 32 → (smW (c_tx μ) t k e → q = kyT t) → (¬ smW (c_tx μ) t k e → tH mX2_key d 0 0 (tq (q_is μ (kyT t)) 0 0) 14 [(0, 2, 4), (1, 0, q + 1), (2, 0, e + 1)] [] μ 0 0) →
      tH mX2_key d 0 0 (tq (q_is μ (kyT t)) 0 0) 14 [(0, 2, 4), (1, 0, q), (2, 0, k)] [] μ 0 0 := by
    intro q k e q0 q8 k0 ke e50 hsp he hy hno
    have inner : ∀ (f : Nat) (i : Int), (f : Int) = e - i → k ≤ i → tH mX2_key d 0 0 (tq (q_is μ (kyT t)) 0 0) 25 [(0, 2, 4), (1, 0, q), (2, 0, k), (3, 0, i)] [] μ 0 0 := by
      intro f
      induction f with
      | zero =>
        intro i hf hi
        have : i = e := by omega
        subst this
        refine rX2_key_25 hs ⟨⟨by omega, by decide⟩, ⟨by omega, e50⟩, fun _ => ?_, fun c => absurd he c⟩
        refine rcl_of (d' := d - 1) (pX2_isWord (by omega) hs hX ht h0 h1 h2 k0 ke (by omega)) (by omega) (Nat.le_refl _) (Nat.le_refl _) (fun o μ1 z => ?_)
        obtain ⟨rfl, ⟨z, rfl⟩ | ⟨z, rfl⟩⟩ := z
        · exact Or.inl ⟨1, rfl, hs, fun c => absurd c (by decide), fun _ => ⟨by decide, by rw [hy z], rfl⟩⟩
        · refine Or.inl ⟨0, rfl, hs, fun _ => ?_, fun c => absurd rfl c⟩
          rintro x8 rfl
          rw [w32_id (x := i + 1) (by omega) (by omega), w32_id (x := q + 1) (by omega) (by omega)]
          exact hno z
      | succ f ih =>
        intro i hf hi
        refine rX2_key_25 hs ⟨⟨by omega, by decide⟩, ⟨by omega, by omega⟩, fun c => absurd c (hsp i hi (by omega)), fun _ => ?_⟩
        rw [w32_id (x := i + 1) (by omega) (by omega)]
        exact ih (i + 1) (by omega) (by omega)
    exact rX2_key_14 hs ⟨⟨by omega, by decide⟩, fun c => by omega, fun _ => inner (e - k).toNat k (by omega) (Int.le_refl _)⟩
  refine tC_of rfl (Nat.le_of_ble_eq_true rfl) (rX2_key_0 hs ⟨fun c => ?_, fun c => ⟨by decide, ?_, rfl⟩⟩)
  · have k1 := e3.mp c
    have hK : kyT t = kyW (kva t) := by unfold kyT; rw [if_pos k1]
    have nsp : ∀ (k e : Int), (List.range (e - k).toNat).all (fun j => decide (KC (k + (j : Int)) ≠ 32)) = true → ∀ j, k ≤ j → j < e → KC j ≠ 32 := by
      intro k e h j h1 h2
      have := List.all_eq_true.mp h (j - k).toNat (List.mem_range.mpr (by omega))
      rw [show k + (((j - k).toNat : Nat) : Int) = j by omega] at this
      exact of_decide_eq_true this
    have lt : ∀ (k : Int) (m : Nat), (List.range m).all (fun j => decide (97 ≤ KC (k + (j : Int)) ∧ KC (k + (j : Int)) ≤ 122)) = true → ltr KC k m := by
      intro k m h i hi
      exact of_decide_eq_true (List.all_eq_true.mp h i (List.mem_range.mpr hi))
    have S0 := smW_code (k := 1) (e := 6) (c := 17171557) hwt k1 (by decide) (by decide) (lt _ _ (by decide)) (by decide)
    have S1 := smW_code (k := 7) (e := 11) (c := 394693) hwt k1 (by decide) (by decide) (lt _ _ (by decide)) (by decide)
    have S2 := smW_code (k := 12) (e := 17) (c := 3751539) hwt k1 (by decide) (by decide) (lt _ _ (by decide)) (by decide)
    have S3 := smW_code (k := 18) (e := 22) (c := 635383) hwt k1 (by decide) (by decide) (lt _ _ (by decide)) (by decide)
    have S4 := smW_code (k := 23) (e := 28) (c := 8554067) hwt k1 (by decide) (by decide) (lt _ _ (by decide)) (by decide)
    have S5 := smW_code (k := 29) (e := 33) (c := 627891) hwt k1 (by decide) (by decide) (lt _ _ (by decide)) (by decide)
    have S6 := smW_code (k := 34) (e := 39) (c := 6605428) hwt k1 (by decide) (by decide) (lt _ _ (by decide)) (by decide)
    have S7 := smW_code (k := 40) (e := 46) (c := 642891204) hwt k1 (by decide) (by decide) (lt _ _ (by decide)) (by decide)
    have S8 := smW_code (k := 47) (e := 49) (c := 655) hwt k1 (by decide) (by decide) (lt _ _ (by decide)) (by decide)
    refine step 0 1 6 (by decide) (by decide) (by decide) (by decide) (by decide) (nsp _ _ (by decide)) (by decide) (fun z => by rw [hK, S0.mp z]; rfl) (fun z0 => ?_)
    refine step 1 7 11 (by decide) (by decide) (by decide) (by decide) (by decide) (nsp _ _ (by decide)) (by decide) (fun z => by rw [hK, S1.mp z]; rfl) (fun z1 => ?_)
    refine step 2 12 17 (by decide) (by decide) (by decide) (by decide) (by decide) (nsp _ _ (by decide)) (by decide) (fun z => by rw [hK, S2.mp z]; rfl) (fun z2 => ?_)
    refine step 3 18 22 (by decide) (by decide) (by decide) (by decide) (by decide) (nsp _ _ (by decide)) (by decide) (fun z => by rw [hK, S3.mp z]; rfl) (fun z3 => ?_)
    refine step 4 23 28 (by decide) (by decide) (by decide) (by decide) (by decide) (nsp _ _ (by decide)) (by decide) (fun z => by rw [hK, S4.mp z]; rfl) (fun z4 => ?_)
    refine step 5 29 33 (by decide) (by decide) (by decide) (by decide) (by decide) (nsp _ _ (by decide)) (by decide) (fun z => by rw [hK, S5.mp z]; rfl) (fun z5 => ?_)
    refine step 6 34 39 (by decide) (by decide) (by decide) (by decide) (by decide) (nsp _ _ (by decide)) (by decide) (fun z => by rw [hK, S6.mp z]; rfl) (fun z6 => ?_)
    refine step 7 40 46 (by decide) (by decide) (by decide) (by decide) (by decide) (nsp _ _ (by decide)) (by decide) (fun z => by rw [hK, S7.mp z]; rfl) (fun z7 => ?_)
    refine step 8 47 49 (by decide) (by decide) (by decide) (by decide) (by decide) (nsp _ _ (by decide)) (by decide) (fun z => by rw [hK, S8.mp z]; rfl) (fun z8 => ?_)
    have hm : kyT t = -1 := by
      rw [hK]
      unfold kyW
      rw [if_neg (fun q => z0 (S0.mpr q)), if_neg (fun q => z1 (S1.mpr q)), if_neg (fun q => z2 (S2.mpr q)), if_neg (fun q => z3 (S3.mpr q)), if_neg (fun q => z4 (S4.mpr q)), if_neg (fun q => z5 (S5.mpr q)), if_neg (fun q => z6 (S6.mpr q)), if_neg (fun q => z7 (S7.mpr q)), if_neg (fun q => z8 (S8.mpr q))]
    refine rX2_key_14 hs ⟨⟨by omega, by decide⟩, fun _ => ⟨by decide, by rw [hm], rfl⟩, fun c => absurd c (by decide)⟩
  · unfold kyT
    rw [if_neg (fun q => c (e3.mpr q))]
end C0KY
