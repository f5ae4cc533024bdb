/-! PURE: rows walked from the start on, against the walk by rows; sums over pairs by eights -/
theorem sm_N {F : Int → Int → Int} {N : Nat} : ∀ M : Nat, sm (fun i => F (i / N) (i % N)) (N * M) = sm (fun a => sm (fun b => F a b) N) M
  | 0 => rfl
  | M + 1 => by
    rw [Nat.mul_add, Nat.mul_one, sm_add, sm_N M, sm]
    congr 1
    refine sm_congr (fun i hi => ?_)
    have h := dm_eq (n := (N : Int)) (a := (M : Int)) (b := (i : Int)) (by omega) (by omega)
    have e : ((N * M : Nat) : Int) = (N : Int) * (M : Int) := by simp
    rw [e, h.1, h.2]
theorem sm_8 {F : Int → Int → Int} {N : Nat} (hN : N ≤ 8) : sm (fun k => if k / 8 < N ∧ k % 8 < N then F (k / 8) (k % 8) else 0) 64 = sm (fun a => sm (fun b => F a b) N) N := by
  rw [show (64 : Nat) = 8 * 8 by rfl, sm_flat]
  have e : ∀ a b : Nat, b < 8 → (8 * (a : Int) + (b : Int)) / 8 = a ∧ (8 * (a : Int) + (b : Int)) % 8 = b := fun a b hb => by omega
  rw [sm_cut (m := N) (n := 8) hN]
  · refine sm_congr (fun a ha => ?_)
    rw [sm_cut (m := N) (n := 8) hN]
    · refine sm_congr (fun b hb => ?_)
      rw [(e a b (by omega)).1, (e a b (by omega)).2, if_pos ⟨by omega, by omega⟩]
    · intro b hb1 hb2
      (try dsimp only)
      rw [(e a b hb2).1, (e a b hb2).2, if_neg (by omega)]
  · intro a ha1 ha2
    refine sm_z (fun b hb => ?_)
    rw [(e a b hb).1, (e a b hb).2, if_neg (by omega)]
section C0O
variable {ν : tm_M} {f g f' g' : Int → Int} {a b : Int}
/-- behind t steps by two rows: when they met (0: not yet), where they are -/
noncomputable def w3 (ν : tm_M) (f g : Int → Int) (a b : Int) : Nat → Int × Int × Int
  | 0 => (0, a, b)
  | t + 1 => if (w3 ν f g a b t).1 ≠ 0 then w3 ν f g a b t else
      (@ite Int (y_met ν (y_go ν (w3 ν f g a b t).2.1 (f t)) (if (t : Int) % tm_v ν 65 24 = 0 then y_go ν (w3 ν f g a b t).2.2 (g t) else (w3 ν f g a b t).2.2) (w3 ν f g a b t).2.1 (w3 ν f g a b t).2.2) (Classical.propDecidable _) ((t : Int) + 1) 0,
       y_go ν (w3 ν f g a b t).2.1 (f t), if (t : Int) % tm_v ν 65 24 = 0 then y_go ν (w3 ν f g a b t).2.2 (g t) else (w3 ν f g a b t).2.2)
theorem ite_c {P : Prop} (D : Decidable P) (x : Int) (hx : 0 ≤ x) : 0 ≤ @ite Int P D x 0 ∧ @ite Int P D x 0 ≤ x := by split <;> omega
theorem w3_in (t : Nat) : 0 ≤ (w3 ν f g a b t).1 ∧ (w3 ν f g a b t).1 ≤ t := by
  induction t with
  | zero => rw [w3]; exact ⟨Int.le_refl _, Int.le_refl _⟩
  | succ t ih =>
    rw [w3]
    split
    · omega
    · have h := ite_c (Classical.propDecidable (y_met ν (y_go ν (w3 ν f g a b t).2.1 (f t)) (if (t : Int) % tm_v ν 65 24 = 0 then y_go ν (w3 ν f g a b t).2.2 (g t) else (w3 ν f g a b t).2.2) (w3 ν f g a b t).2.1 (w3 ν f g a b t).2.2)) ((t : Int) + 1) (by omega)
      exact ⟨h.1, by have := h.2; omega⟩
theorem w3_p (ha : y_p ν a) (hb : y_p ν b) (t : Nat) : y_p ν (w3 ν f g a b t).2.1 ∧ y_p ν (w3 ν f g a b t).2.2 := by
  induction t with
  | zero => rw [w3]; exact ⟨ha, hb⟩
  | succ t ih =>
    rw [w3]
    split
    · exact ih
    · refine ⟨y_go_p ih.1, ?_⟩
      (try dsimp only)
      split
      · exact y_go_p ih.2
      · exact ih.2
theorem w3_stay {t : Nat} (h : (w3 ν f g a b t).1 ≠ 0) (k : Nat) : w3 ν f g a b (t + k) = w3 ν f g a b t := by
  induction k with
  | zero => rfl
  | succ k ih => rw [← Nat.add_assoc, w3, ih, if_pos h]
theorem w3_br (k : Nat) : ∀ t : Nat, (w3 ν f g a b t).1 = 0 → y_br ν f g k t (w3 ν f g a b t).2.1 (w3 ν f g a b t).2.2 = if (w3 ν f g a b (t + k)).1 = 0 then -1 else (w3 ν f g a b (t + k)).1 := by
  induction k with
  | zero => intro t h; rw [y_br, Nat.add_zero, if_pos h]
  | succ k ih =>
    intro t h
    have e : w3 ν f g a b (t + 1) = (@ite Int (y_met ν (y_go ν (w3 ν f g a b t).2.1 (f t)) (if (t : Int) % tm_v ν 65 24 = 0 then y_go ν (w3 ν f g a b t).2.2 (g t) else (w3 ν f g a b t).2.2) (w3 ν f g a b t).2.1 (w3 ν f g a b t).2.2) (Classical.propDecidable _) ((t : Int) + 1) 0,
       y_go ν (w3 ν f g a b t).2.1 (f t), if (t : Int) % tm_v ν 65 24 = 0 then y_go ν (w3 ν f g a b t).2.2 (g t) else (w3 ν f g a b t).2.2) := by rw [w3, if_neg (fun q => q h)]
    rw [y_br, ← Nat.add_assoc, Nat.add_right_comm]
    by_cases c : y_met ν (y_go ν (w3 ν f g a b t).2.1 (f t)) (if (t : Int) % tm_v ν 65 24 = 0 then y_go ν (w3 ν f g a b t).2.2 (g t) else (w3 ν f g a b t).2.2) (w3 ν f g a b t).2.1 (w3 ν f g a b t).2.2
    · have e1 : (w3 ν f g a b (t + 1)).1 = (t : Int) + 1 := by rw [e]; exact if_pos c
      rw [if_pos c, w3_stay (t := t + 1) (by omega) k, e1, if_neg (by omega)]
    · have e1 : (w3 ν f g a b (t + 1)).1 = 0 := by rw [e]; exact if_neg c
      have h2 := ih (t + 1) e1
      rw [if_neg c, ← h2, e]
      rfl
theorem w3_cg (t : Nat) (h : ∀ i : Int, 0 ≤ i → i < t → f i = f' i ∧ g i = g' i) : w3 ν f g a b t = w3 ν f' g' a b t := by
  induction t with
  | zero => rfl
  | succ t ih =>
    have h1 := h t (by omega) (by omega)
    rw [w3, w3, ih (fun i i0 i1 => h i i0 (by omega)), h1.1, h1.2]
/-- how likely a pair begins that isn't met yet -/
def wt (ν : tm_M) (k : Int) : Int := if (k / 8 < tm_v ν 65 20 ∧ k % 8 < tm_v ν 65 20) ∧ k / 8 ≠ k % 8 then y_likely ν (k / 8) (k % 8) else 0
theorem wt_p {k : Int} (hW : y_W ν) (k0 : 0 ≤ k) (h : (k / 8 < tm_v ν 65 20 ∧ k % 8 < tm_v ν 65 20)) : y_p ν (k / 8) ∧ y_p ν (k % 8) := ⟨⟨hW, by omega, h.1⟩, ⟨hW, by omega, h.2⟩⟩
theorem wt_in {k : Int} (hW : y_W ν) (k0 : 0 ≤ k) : 0 ≤ wt ν k ∧ wt ν k ≤ 81 := by
  unfold wt
  split
  · rename_i h
    have := wt_p hW k0 h.1
    exact y_lik_in this.1 this.2
  · omega
theorem wt_ne {k : Int} (hW : y_W ν) (k0 : 0 ≤ k) (h : wt ν k ≠ 0) : (y_p ν (k / 8) ∧ y_p ν (k % 8)) ∧ wt ν k = y_likely ν (k / 8) (k % 8) := by
  unfold wt at h ⊢
  split at h
  · rename_i q
    rw [if_pos q]
    exact ⟨wt_p hW k0 q.1, rfl⟩
  · exact absurd rfl h
/-- by likelihoods: how late in all who met, who have not met -/
noncomputable def rl (ν : tm_M) (f g : Int → Int) (t : Nat) : Int := sm (fun k => wt ν k * (w3 ν f g (k / 8) (k % 8) t).1) 64
noncomputable def rm (ν : tm_M) (f g : Int → Int) (t : Nat) : Int := sm (fun k => if (w3 ν f g (k / 8) (k % 8) t).1 = 0 then wt ν k else 0) 64
theorem rl_cg (t : Nat) (h : ∀ i : Int, 0 ≤ i → i < t → f i = f' i ∧ g i = g' i) : rl ν f g t = rl ν f' g' t := sm_congr (fun k _ => by rw [w3_cg t h])
theorem rm_cg (t : Nat) (h : ∀ i : Int, 0 ≤ i → i < t → f i = f' i ∧ g i = g' i) : rm ν f g t = rm ν f' g' t := sm_congr (fun k _ => by rw [w3_cg t h])
theorem rl_in (hW : y_W ν) (t : Nat) (ht : t ≤ 5) : 0 ≤ rl ν f g t ∧ rl ν f g t ≤ 25920 := by
  have := sm_bd (f := fun k => wt ν k * (w3 ν f g (k / 8) (k % 8) t).1) (n := 64) (c := 405) (fun i hi => by
    have h1 := w3_in (ν := ν) (f := f) (g := g) (a := (i : Int) / 8) (b := (i : Int) % 8) t
    have := mul_bd (wt_in (k := (i : Int)) hW (by omega)) (show 0 ≤ (w3 ν f g ((i : Int) / 8) ((i : Int) % 8) t).1 ∧ (w3 ν f g ((i : Int) / 8) ((i : Int) % 8) t).1 ≤ 5 by omega)
    omega)
  unfold rl
  omega
theorem rm_in (hW : y_W ν) (t : Nat) : 0 ≤ rm ν f g t ∧ rm ν f g t ≤ 5184 := by
  have := sm_bd (f := fun k => if (w3 ν f g (k / 8) (k % 8) t).1 = 0 then wt ν k else 0) (n := 64) (c := 81) (fun i hi => by
    have := wt_in (k := (i : Int)) hW (by omega)
    (try dsimp only)
    split <;> omega)
  unfold rm
  omega
theorem y_rows_w3 {n : Int} (hab : a ≠ b) : y_rows ν f g n a b = if (w3 ν f g a b n.toNat).1 = 0 then -1 else (w3 ν f g a b n.toNat).1 := by
  have h := w3_br (ν := ν) (f := f) (g := g) (a := a) (b := b) n.toNat 0 rfl
  unfold y_rows
  rw [if_neg hab]
  rw [Nat.zero_add] at h
  exact h
theorem rw_m_eq {n m o v : Int} (hW : y_W ν) : rw_m ν n m o v = rm ν (row1 (dg m v) o) (row2 (dg m v) o) n.toNat := by
  have h20 := hW.1
  have hN : (((tm_v ν 65 20).toNat : Nat) : Int) = tm_v ν 65 20 := by omega
  have e1 : (tm_v ν 65 20 * tm_v ν 65 20).toNat = (tm_v ν 65 20).toNat * (tm_v ν 65 20).toNat := by
    obtain ⟨N, hN⟩ := Int.eq_ofNat_of_zero_le h20.1
    rw [hN]
    rfl
  unfold rw_m rm
  rw [e1]
  have s1 := sm_N (F := fun a b => if (if y_likely ν a b = 0 then 0 else y_rows ν (row1 (dg m v) o) (row2 (dg m v) o) n a b) < 0 then y_likely ν a b else 0) (N := (tm_v ν 65 20).toNat) (tm_v ν 65 20).toNat
  have s2 := sm_8 (F := fun a b => if (if y_likely ν a b = 0 then 0 else y_rows ν (row1 (dg m v) o) (row2 (dg m v) o) n a b) < 0 then y_likely ν a b else 0) (N := (tm_v ν 65 20).toNat) (by omega)
  rw [hN] at s1 s2
  refine Eq.trans (sm_congr (fun i hi => ?_)) (s1.trans (s2.symm.trans (sm_congr (fun k hk => ?_))))
  · unfold rw_mi rw_t; rfl
  · have hw := w3_in (ν := ν) (f := row1 (dg m v) o) (g := row2 (dg m v) o) (a := (k : Int) / 8) (b := (k : Int) % 8) n.toNat
    (try dsimp only)
    by_cases c : (k : Int) / 8 < tm_v ν 65 20 ∧ (k : Int) % 8 < tm_v ν 65 20
    · by_cases c2 : (k : Int) / 8 ≠ (k : Int) % 8
      · have hwt : wt ν k = y_likely ν ((k : Int) / 8) ((k : Int) % 8) := by unfold wt; rw [if_pos ⟨c, c2⟩]
        rw [if_pos c, hwt, y_rows_w3 c2]
        by_cases c3 : y_likely ν ((k : Int) / 8) ((k : Int) % 8) = 0
        · rw [if_pos c3, if_neg (by decide), c3]; split <;> rfl
        · rw [if_neg c3]
          by_cases c4 : (w3 ν (row1 (dg m v) o) (row2 (dg m v) o) ((k : Int) / 8) ((k : Int) % 8) n.toNat).1 = 0
          · rw [if_pos c4, if_pos (by decide), if_pos c4]
          · rw [if_neg c4, if_neg (by omega), if_neg c4]
      · have hwt : wt ν k = 0 := by unfold wt; rw [if_neg (fun q => c2 q.2)]
        have hr : y_rows ν (row1 (dg m v) o) (row2 (dg m v) o) n ((k : Int) / 8) ((k : Int) % 8) = 0 := by unfold y_rows; rw [if_pos (Classical.byContradiction fun q => c2 q)]
        rw [if_pos c, hwt, hr]
        simp
    · have hwt : wt ν k = 0 := by unfold wt; rw [if_neg (fun q => c q.1)]
      rw [if_neg c, hwt]
      split <;> rfl
theorem rw_l_eq {n m o v : Int} (hW : y_W ν) : rw_l ν n m o v = rl ν (row1 (dg m v) o) (row2 (dg m v) o) n.toNat + rm ν (row1 (dg m v) o) (row2 (dg m v) o) n.toNat * (n + 1) := by
  have h20 := hW.1
  have hN : (((tm_v ν 65 20).toNat : Nat) : Int) = tm_v ν 65 20 := by omega
  have e1 : (tm_v ν 65 20 * tm_v ν 65 20).toNat = (tm_v ν 65 20).toNat * (tm_v ν 65 20).toNat := by
    obtain ⟨N, hN⟩ := Int.eq_ofNat_of_zero_le h20.1
    rw [hN]
    rfl
  unfold rw_l rl rm
  rw [e1, Int.mul_comm _ (n + 1), ← sm_mul, ← sm_plus]
  have s1 := sm_N (F := fun a b => y_likely ν a b * (if (if y_likely ν a b = 0 then 0 else y_rows ν (row1 (dg m v) o) (row2 (dg m v) o) n a b) < 0 then n + 1 else (if y_likely ν a b = 0 then 0 else y_rows ν (row1 (dg m v) o) (row2 (dg m v) o) n a b))) (N := (tm_v ν 65 20).toNat) (tm_v ν 65 20).toNat
  have s2 := sm_8 (F := fun a b => y_likely ν a b * (if (if y_likely ν a b = 0 then 0 else y_rows ν (row1 (dg m v) o) (row2 (dg m v) o) n a b) < 0 then n + 1 else (if y_likely ν a b = 0 then 0 else y_rows ν (row1 (dg m v) o) (row2 (dg m v) o) n a b))) (N := (tm_v ν 65 20).toNat) (by omega)
  rw [hN] at s1 s2
  refine Eq.trans (sm_congr (fun i hi => ?_)) (s1.trans (s2.symm.trans (sm_congr (fun k hk => ?_))))
  · unfold rw_li rw_t; rfl
  · have hw := w3_in (ν := ν) (f := row1 (dg m v) o) (g := row2 (dg m v) o) (a := (k : Int) / 8) (b := (k : Int) % 8) n.toNat
    (try dsimp only)
    by_cases c : (k : Int) / 8 < tm_v ν 65 20 ∧ (k : Int) % 8 < tm_v ν 65 20
    · by_cases c2 : (k : Int) / 8 ≠ (k : Int) % 8
      · have hwt : wt ν k = y_likely ν ((k : Int) / 8) ((k : Int) % 8) := by unfold wt; rw [if_pos ⟨c, c2⟩]
        rw [if_pos c, hwt, y_rows_w3 c2]
        by_cases c3 : y_likely ν ((k : Int) / 8) ((k : Int) % 8) = 0
        · rw [c3]; simp
        · rw [if_neg c3]
          by_cases c4 : (w3 ν (row1 (dg m v) o) (row2 (dg m v) o) ((k : Int) / 8) ((k : Int) % 8) n.toNat).1 = 0
          · rw [if_pos c4, if_pos (by decide), if_pos c4, c4, Int.mul_zero, Int.zero_add, Int.mul_comm]
          · rw [if_neg c4, if_neg (by omega), if_neg c4, Int.mul_zero, Int.add_zero]
      · have hwt : wt ν k = 0 := by unfold wt; rw [if_neg (fun q => c2 q.2)]
        have hr : y_rows ν (row1 (dg m v) o) (row2 (dg m v) o) n ((k : Int) / 8) ((k : Int) % 8) = 0 := by unfold y_rows; rw [if_pos (Classical.byContradiction fun q => c2 q)]
        rw [if_pos c, hwt, hr]
        simp
    · have hwt : wt ν k = 0 := by unfold wt; rw [if_neg (fun q => c q.1)]
      rw [if_neg c, hwt]
      simp
theorem rw_f_add {n m o : Int} (j k : Nat) : ∀ v s, rw_f ν n m o (j + k) v s = rw_f ν n m o k (v + j) (rw_f ν n m o j v s) := by
  induction j with
  | zero => intro v s; rw [Nat.zero_add, rw_f]; simp
  | succ j ih =>
    intro v s
    rw [Nat.add_right_comm, rw_f, ih, rw_f]
    congr 1
    omega
end C0O
