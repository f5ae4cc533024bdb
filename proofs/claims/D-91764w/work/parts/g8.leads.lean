/-! CONTRACTS of the component: whether a place leads to another; the picture of a town that is being read -/
section C0LD
variable {d : Nat} {μ : tm_M} {x q l : Int}
/-- the other end of the lane at l -/
def oth (μ : tm_M) (l q : Int) : Int := if q = tm_v μ l 0 then tm_v μ l 1 else tm_v μ l 0
theorem pX8_oth (hs : tS μ) (h : ob μ l 8) : cR w0 mX8_other d [(2, l), (2, q)] μ (fun r _ => r = oth μ l q) := by
  refine t_of (uX8_other_0 (tFr.rf hs) ⟨h, fun c => ?_, fun c => ?_⟩)
  · unfold oth; rw [if_neg c]
  · unfold oth; rw [if_pos c]
def ledto (μ : tm_M) (x q : Int) : Prop := ∃ k, 0 ≤ k ∧ k < tm_v μ x 5 ∧ oth μ (tm_v μ (tm_v μ x 6) k) x = q
def q_leads (μ : tm_M) (x q : Int) : tQ := fun o μ1 => μ1 = μ ∧ ((ledto μ x q ∧ o = .inl (some (0, 1))) ∨ (¬ ledto μ x q ∧ o = .inl (some (0, 0))))
theorem pX7_leads (hd : 1 ≤ d) (hs : tS μ) (hx : 1 ≤ x ∧ tm_k μ x = 7) (ha : 1 ≤ tm_v μ x 6 ∧ tm_k μ (tm_v μ x 6) = 27) (hn : tm_n μ (tm_v μ x 6) = 4) (h4 : 0 ≤ tm_v μ x 5 ∧ tm_v μ x 5 ≤ 4) (hl : ∀ k, 0 ≤ k → k < tm_v μ x 5 → ob μ (tm_v μ (tm_v μ x 6) k) 8) : tC mX7_leads d 0 0 [(2, x), (2, q)] μ (q_leads μ x q) := by
  have loop : ∀ (f : Nat) (i : Int), (f : Int) = tm_v μ x 5 - i → 0 ≤ i → (∀ k, 0 ≤ k → k < i → oth μ (tm_v μ (tm_v μ x 6) k) x ≠ q) → tH mX7_leads d 0 0 (tq (q_leads μ x q) 0 0) 2 [(0, 2, x), (1, 2, q), (2, 0, i)] [] μ 0 0 := by
    intro f
    induction f with
    | zero =>
      intro i hf hi hk
      exact rX7_leads_2 hs ⟨hx, fun _ => ⟨by decide, rfl, Or.inr ⟨fun ⟨k, k0, k1, k2⟩ => hk k k0 (by omega) k2, rfl⟩⟩, fun c => by omega⟩
    | succ f ih =>
      intro i hf hi hk
      refine rX7_leads_2 hs ⟨hx, fun c => by omega, fun c => ⟨ha, by rw [hn]; omega, (hl i hi c).1, ?_⟩⟩
      refine rcl_R (d' := 0) (pX8_oth hs (hl i hi c)) hd (Nat.le_refl _) (Nat.le_refl _) (fun r m f8 e8 => ?_)
      rw [tFr_eq f8]
      refine ⟨hs, fun c1 => ?_, fun c1 => ⟨by decide, rfl, Or.inl ⟨⟨i, hi, c, by rw [← e8]; exact c1⟩, rfl⟩⟩⟩
      rw [w32_id (x := i + 1) (by omega) (by omega)]
      refine ih (i + 1) (by omega) (by omega) (fun k k0 k1 => ?_)
      by_cases z : k = i
      · rw [z, ← e8]; exact c1
      · exact hk k k0 (by omega)
  exact tC_of rfl (Nat.le_of_ble_eq_true rfl) (rX7_leads_0 hs (loop (tm_v μ x 5).toNat 0 (by omega) (Int.le_refl _) (fun k k0 k1 => by omega)))
end C0LD
/-! PURE and picture: a town that is being read -/
def rT (m : tm_M) : Int := tm_v m 4 8
def rPA (m : tm_M) : Int := tm_v m (rT m) 0
def rLA (m : tm_M) : Int := tm_v m (rT m) 1
def rFA (m : tm_M) : Int := tm_v m (rT m) 7
def rP (m : tm_M) (k : Int) : Int := tm_v m (rPA m) k
def rL (m : tm_M) (l : Int) : Int := tm_v m (rLA m) l
def rA (m : tm_M) (k : Int) : Int := tm_v m (rP m k) 6
/-- made since z -/
def nw (z : Int) (m : tm_M) (x : Int) (k : Nat) : Prop := (z ≤ x ∧ x < tm_z m) ∧ tm_k m x = k
/-- v is the component's, w the model's form of one name -/
def nmE (tx : Int → Int) (v w : Int) : Prop := ∃ (a : Int) (n : Nat), n ≤ 8 ∧ ltr tx a n ∧ v = nmv tx a n ∧ w = wd tx a n
/-- the reader's town, made since z, is s -/
def JR (z : Int) (tx : Int → Int) (m : tm_M) (s : TN) : Prop :=
  (nw z m (rT m) 4 ∧ (nw z m (rPA m) 26 ∧ tm_n m (rPA m) = 8) ∧ (nw z m (rLA m) 27 ∧ tm_n m (rLA m) = 12) ∧ (nw z m (rFA m) 20 ∧ tm_n m (rFA m) = 8)) ∧
  (tm_v m (rT m) 2 = n_p s ∧ tm_v m (rT m) 3 = n_l s ∧ tm_v m (rT m) 4 = n_s s ∧ tm_v m (rT m) 5 = n_h s ∧ tm_v m (rT m) 6 = n_c s) ∧ tm_v m 4 7 = 4 * n_c s + 8 * n_t s + 16 * n_u s ∧
  (∀ k, 0 ≤ k → k < n_p s → nw z m (rP m k) 7 ∧ nmE tx (tm_v m (rP m k) 0) (n_m s k) ∧ tm_v m (rP m k) 1 = k ∧ (tm_v m (rP m k) 2 = n_f s (3 * k) ∧ tm_v m (rP m k) 3 = n_f s (3 * k + 1) ∧ tm_v m (rP m k) 4 = n_f s (3 * k + 2) ∧ tm_v m (rP m k) 5 = n_d s k) ∧
    (nw z m (rA m k) 27 ∧ tm_n m (rA m k) = 4 ∧ rA m k ≠ rLA m) ∧ ∀ i, 0 ≤ i → i < n_d s k → tm_v m (rA m k) i = rL m (n_a s (4 * k + i))) ∧
  (∀ l, 0 ≤ l → l < n_l s → nw z m (rL m l) 8 ∧ tm_v m (rL m l) 0 = rP m (n_1 s l) ∧ tm_v m (rL m l) 1 = rP m (n_2 s l) ∧ tm_v m (rL m l) 2 = 0) ∧
  (∀ k k', 0 ≤ k → k < n_p s → 0 ≤ k' → k' < n_p s → rA m k = rA m k' → k = k') ∧ ∀ l l', 0 ≤ l → l < n_l s → 0 ≤ l' → l' < n_l s → rL m l = rL m l' → l = l'
theorem fdn_congr {c c' : Int → Prop} [∀ k, Decidable (c k)] [∀ k, Decidable (c' k)] {e : Int} : ∀ (n : Nat) (k : Int), (∀ j, k ≤ j → j < k + n → (c j ↔ c' j)) → fdn c e n k = fdn c' e n k := by
  intro n
  induction n with
  | zero => intro k _; rfl
  | succ n ih =>
    intro k h
    rw [fdn, fdn, ih (k + 1) (fun j h1 h2 => h j (by omega) (by omega))]
    have := h k (by omega) (by omega)
    by_cases q : c k
    · rw [if_pos q, if_pos (this.mp q)]
    · rw [if_neg q, if_neg (fun z => q (this.mpr z))]
theorem nmE_iff {tx : Int → Int} {v w : Int} {t : TK} (h : nmE tx v w) (hN : nmT t) (hw : wrdT tx t) : v = nmC tx t ↔ w = kva t := by
  obtain ⟨a, n, h8, hl, rfl, rfl⟩ := h
  obtain ⟨e1, e2, e3⟩ := hw hN.1
  rw [e1]
  unfold nmC
  have := hN.2.1
  exact nm_iff h8 (by omega) hl e2
theorem JR_nm {z : Int} {tx : Int → Int} {m : tm_M} {s : TN} {t : TK} (h : JR z tx m s) (hN : nmT t) (hw : wrdT tx t) : fdn (fun k => tm_v m (tm_v m (tm_v m (rT m) 0) k) 0 = nmC tx t) (-1) (tm_v m (rT m) 2).toNat 0 = p_nm s (kva t) := by
  rw [h.2.1.1]
  unfold p_nm
  refine fdn_congr _ _ (fun j h1 h2 => ?_)
  have := (h.2.2.2.1 j h1 (by omega)).2.1
  exact nmE_iff this hN hw
