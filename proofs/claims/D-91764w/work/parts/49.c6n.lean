/-! CONTRACTS of the model: the best rows -/
section C6N
variable {d : Nat} {μ μ0 : tm_M} {W : Int → Int → Prop}
theorem dg_in (m v k : Int) : 0 ≤ dg m v k ∧ dg m v k ≤ 4 := by unfold dg; omega
theorem y_br_congr {f g f' g' : Int → Int} (k : Nat) : ∀ t p q : Int, (∀ j : Int, t ≤ j → j < t + k → f j = f' j ∧ g j = g' j) → y_br μ f g k t p q = y_br μ f' g' k t p q := by
  induction k with
  | zero => intro t p q h; rfl
  | succ k ih =>
    intro t p q h
    have h1 := h t (by omega) (by omega)
    rw [y_br, y_br, h1.1, h1.2, ih (t + 1) _ _ (fun j j0 j1 => h j (by omega) (by omega))]
theorem y_rows_congr {f g f' g' : Int → Int} {n a b : Int} (hn : 0 ≤ n) (h : ∀ j, 0 ≤ j → j < n → f j = f' j ∧ g j = g' j) : y_rows μ f g n a b = y_rows μ f' g' n a b := by
  unfold y_rows
  rw [y_br_congr n.toNat 0 a b (fun j j0 j1 => h j j0 (by omega))]
theorem rw_t_in {n m o v i : Int} (hn : 0 ≤ n) : -1 ≤ rw_t μ n m o v i ∧ rw_t μ n m o v i ≤ n := by
  unfold rw_t
  have := y_rows_in (μ := μ) (row1 (dg m v) o) (row2 (dg m v) o) (i / tm_v μ 65 20) (i % tm_v μ 65 20) hn
  split <;> omega
theorem rw_mi_in {n m o v i : Int} (hW : y_W μ) (h0 : 0 ≤ i) (h1 : i < tm_v μ 65 20 * tm_v μ 65 20) : 0 ≤ rw_mi μ n m o v i ∧ rw_mi μ n m o v i ≤ 81 := by
  have hp := dm_p hW h0 h1
  have hl := y_lik_in hp.1 hp.2
  unfold rw_mi
  split <;> omega
theorem rw_li_in {n m o v i : Int} (hW : y_W μ) (hn : 0 ≤ n ∧ n ≤ 5) (h0 : 0 ≤ i) (h1 : i < tm_v μ 65 20 * tm_v μ 65 20) : 0 ≤ rw_li μ n m o v i ∧ rw_li μ n m o v i ≤ 486 := by
  have hp := dm_p hW h0 h1
  have hl := y_lik_in hp.1 hp.2
  have ht := rw_t_in (μ := μ) (n := n) (m := m) (o := o) (v := v) (i := i) hn.1
  unfold rw_li
  have := mul_bd hl (show 0 ≤ (if rw_t μ n m o v i < 0 then n + 1 else rw_t μ n m o v i) ∧ (if rw_t μ n m o v i < 0 then n + 1 else rw_t μ n m o v i) ≤ 6 by split <;> omega)
  omega
theorem sm_in {f : Int → Int} {c : Int} (k : Nat) (h : ∀ i : Nat, i < k → 0 ≤ f i ∧ f i ≤ c) (hc : 0 ≤ c) {N : Nat} (hk : k ≤ N) : 0 ≤ sm f k ∧ sm f k ≤ N * c := by
  have := sm_bd (f := f) (n := k) (c := c) h
  have h2 : (k : Int) * c ≤ (N : Int) * c := Int.mul_le_mul_of_nonneg_right (by omega) hc
  omega
theorem rw_m_0 {n m o v : Int} (hW : y_W μ) : 0 ≤ rw_m μ n m o v := by
  have hnn := nn_in hW.1
  exact (sm_bd (c := 81) (fun i hi => rw_mi_in hW (by omega) (by omega))).1
theorem rw_f_0 {n m o : Int} (hW : y_W μ) (k : Nat) : ∀ v s, 0 ≤ s.1 → 0 ≤ (rw_f μ n m o k v s).1 := by
  induction k with
  | zero => intro v s h; exact h
  | succ k ih =>
    intro v s h
    rw [rw_f]
    refine ih _ _ ?_
    unfold rw_s
    split
    · exact h
    · exact rw_m_0 hW
theorem rw_best_0 {n m o : Int} (hW : y_W μ) : 0 ≤ (rw_best μ n m o).1 := by
  unfold rw_best
  obtain ⟨k, hk⟩ : ∃ k, 5 ^ m.toNat = k + 1 := ⟨5 ^ m.toNat - 1, by have := Nat.pow_pos (n := m.toNat) (show 0 < 5 by decide); omega⟩
  rw [hk, rw_f]
  refine rw_f_0 hW k _ _ ?_
  unfold rw_s
  rw [if_neg (by simp)]
  exact rw_m_0 hW
/-- what the best row's search leaves -/
def o_rows (μ : tm_M) (n m o : Int) (μ' : tm_M) : Prop := tm_v μ' 65 63 = (rw_best μ n m o).1 ∧ tm_v μ' 65 64 = (rw_best μ n m o).2.1 ∧
  (o = 0 → (∀ k, 0 ≤ k → k < m → tm_v μ' 90 k = dg m (rw_best μ n m o).2.2 k) ∧ tm_v μ' 91 = tm_v μ 91) ∧ (o ≠ 0 → (∀ k, 0 ≤ k → k < m → tm_v μ' 91 k = dg m (rw_best μ n m o).2.2 k) ∧ tm_v μ' 90 = tm_v μ 90)
/-- what the loop over the numbers keeps -/
def rw_h (μ : tm_M) (m o : Int) (s : Int × Int × Int) (mm : tm_M) : Prop := tm_v mm 65 63 = s.1 ∧ tm_v mm 65 64 = (if 0 ≤ s.1 then s.2.1 else tm_v mm 65 64) ∧
  (o = 0 → (0 ≤ s.1 → ∀ k, 0 ≤ k → k < m → tm_v mm 90 k = dg m s.2.2 k) ∧ tm_v mm 91 = tm_v μ 91) ∧ (o ≠ 0 → (0 ≤ s.1 → ∀ k, 0 ≤ k → k < m → tm_v mm 91 k = dg m s.2.2 k) ∧ tm_v mm 90 = tm_v μ 90)
theorem pX6_findRows {n m o : Int} (hd : 4 ≤ d) (hs : tS μ) (hW : y_W μ) (ho : o = 0 ∨ o = 1) (hm : m = if o = 0 then 2 * n else n) (hn : 1 ≤ n ∧ (o = 0 → n ≤ 3) ∧ n ≤ 5) : cV wX6_findRows mX6_findRows d [(2, 65), (0, n), (0, m), (0, o)] μ (o_rows μ n m o) := by
  have h20 := hW.1
  have hnn := nn_in h20
  have m6 : 1 ≤ m ∧ m ≤ 6 ∧ (o ≠ 0 → m ≤ 5) := by
    rcases ho with e | e
    · rw [if_pos e] at hm; have := hn.2.1 e; omega
    · rw [if_neg (by omega)] at hm; omega
  have p5 : (5 : Int) ^ m.toNat ≤ 15625 ∧ 1 ≤ (5 : Int) ^ m.toNat := by
    have : m.toNat = 1 ∨ m.toNat = 2 ∨ m.toNat = 3 ∨ m.toNat = 4 ∨ m.toNat = 5 ∨ m.toNat = 6 := by omega
    rcases this with e | e | e | e | e | e <;> rw [e] <;> decide
  -- a better row is kept
  have copy : ∀ (v M L : Int), ∀ (q : Nat) (k : Int) (mm : tm_M), 0 ≤ k → k + q = m → tFr wX6_findRows μ mm → tm_v mm 65 63 = M → tm_v mm 65 64 = L → (∀ j, 0 ≤ j → j < m → tm_v mm 92 j = dg m v j) →
      (o = 0 → (∀ j, 0 ≤ j → j < k → tm_v mm 90 j = dg m v j) ∧ tm_v mm 91 = tm_v μ 91) → (o ≠ 0 → (∀ j, 0 ≤ j → j < k → tm_v mm 91 j = dg m v j) ∧ tm_v mm 90 = tm_v μ 90) →
      (∀ mm', tFr wX6_findRows μ mm' → tm_v mm' 65 63 = M → tm_v mm' 65 64 = L → (o = 0 → (∀ j, 0 ≤ j → j < m → tm_v mm' 90 j = dg m v j) ∧ tm_v mm' 91 = tm_v μ 91) → (o ≠ 0 → (∀ j, 0 ≤ j → j < m → tm_v mm' 91 j = dg m v j) ∧ tm_v mm' 90 = tm_v μ 90) → hV wX6_findRows μ mX6_findRows d (o_rows μ n m o) 34 [(0, 2, 65), (1, 0, n), (2, 0, m), (3, 0, o), (4, 0, 5 ^ m.toNat), (5, 0, w32 (v + 1))] [] mm') →
      hV wX6_findRows μ mX6_findRows d (o_rows μ n m o) 256 [(0, 2, 65), (1, 0, n), (2, 0, m), (3, 0, o), (4, 0, 5 ^ m.toNat), (5, 0, v), (11, 0, k)] [] mm := by
    intro v M L q
    induction q with
    | zero =>
      intro k mm k0 km hf h63 h64 h92 h90 h91 kk
      refine uX6_findRows_256 hf ⟨fun c => ?_, fun c => by omega⟩
      rw [show k = m by omega] at h90 h91
      exact kk mm hf h63 h64 h90 h91
    | succ q ih =>
      intro k mm k0 km hf h63 h64 h92 h90 h91 kk
      have e1 : w32 (k + 1) = k + 1 := w32_id (by omega) (by omega)
      refine uX6_findRows_256 hf ⟨fun c => by omega, fun c => ?_⟩
      rw [e1, h92 k k0 (by omega)]
      refine ⟨fun co => ⟨by omega, ?_⟩, fun co => ⟨by omega, by omega, ?_⟩⟩
      · rintro _ rfl
        refine ih (k + 1) _ (by omega) (by omega) (hf.w (tWs_in _ rfl) (tS_w hf.S sf_90 _ _)) (by rw [tm_vw, if_neg (by omega)]; exact h63) (by rw [tm_vw, if_neg (by omega)]; exact h64) (fun j j0 j1 => by rw [tm_vw, if_neg (by omega)]; exact h92 j j0 j1) (fun _ => ⟨fun j j0 j1 => ?_, ?_⟩) (fun c2 => absurd co c2) kk
        · rw [tm_vw]
          by_cases e : j = k
          · rw [if_pos ⟨rfl, e⟩, e]
          · rw [if_neg (by omega)]; exact (h90 co).1 j j0 (by omega)
        · rw [vw_ne _ _ _ (by decide)]; exact (h90 co).2
      · rintro _ rfl
        refine ih (k + 1) _ (by omega) (by omega) (hf.w (tWs_in _ rfl) (tS_w hf.S sf_91 _ _)) (by rw [tm_vw, if_neg (by omega)]; exact h63) (by rw [tm_vw, if_neg (by omega)]; exact h64) (fun j j0 j1 => by rw [tm_vw, if_neg (by omega)]; exact h92 j j0 j1) (fun c2 => absurd c2 co) (fun _ => ⟨fun j j0 j1 => ?_, ?_⟩) kk
        · rw [tm_vw]
          by_cases e : j = k
          · rw [if_pos ⟨rfl, e⟩, e]
          · rw [if_neg (by omega)]; exact (h91 co).1 j j0 (by omega)
        · rw [vw_ne _ _ _ (by decide)]; exact (h91 co).2
  -- the pairs of a place
  have inner : ∀ (v : Int) (mm : tm_M), tFr wX6_findRows μ mm → (∀ j, 0 ≤ j → j < m → tm_v mm 92 j = dg m v j) → ∀ a, 0 ≤ a → a < tm_v μ 65 20 → ∀ (q : Nat) (b x y : Int), 0 ≤ b → b + q = tm_v μ 65 20 → x = sm (rw_mi μ n m o v) (tm_v μ 65 20 * a + b).toNat → y = sm (rw_li μ n m o v) (tm_v μ 65 20 * a + b).toNat →
      (hV wX6_findRows μ mX6_findRows d (o_rows μ n m o) 87 [(0, 2, 65), (1, 0, n), (2, 0, m), (3, 0, o), (4, 0, 5 ^ m.toNat), (5, 0, v), (7, 1, sm (rw_mi μ n m o v) (tm_v μ 65 20 * (a + 1)).toNat), (9, 1, sm (rw_li μ n m o v) (tm_v μ 65 20 * (a + 1)).toNat), (11, 0, a + 1)] [] mm) →
      hV wX6_findRows μ mX6_findRows d (o_rows μ n m o) 99 [(0, 2, 65), (1, 0, n), (2, 0, m), (3, 0, o), (4, 0, 5 ^ m.toNat), (5, 0, v), (7, 1, x), (9, 1, y), (11, 0, a), (12, 0, b)] [] mm := by
    intro v mm hf h92 a a0 a1 q
    have na := na_in h20 a0 a1
    induction q with
    | zero =>
      intro b x y b0 bn hx hy kk
      refine uX6_findRows_99 (by omega) hf ⟨fun c => ?_, fun c => by omega⟩
      rw [w32_id (by omega) (by omega), hx, hy, show b = tm_v μ 65 20 by omega, ← na.2.2]
      exact kk
    | succ q ih =>
      intro b x y b0 bn hx hy kk
      have pa : y_p μ a := ⟨hW, a0, a1⟩
      have pb : y_p μ b := ⟨hW, b0, by omega⟩
      have dm := dm_eq (n := tm_v μ 65 20) (a := a) (b := b) b0 (by omega)
      have hl := y_lik_in pa pb
      have hxb := sm_in (f := rw_mi μ n m o v) (c := 81) (tm_v μ 65 20 * a + b).toNat (fun i hi => rw_mi_in hW (by omega) (by omega)) (by omega) (N := 64) (by omega)
      have hyb := sm_in (f := rw_li μ n m o v) (c := 486) (tm_v μ 65 20 * a + b).toNat (fun i hi => rw_li_in hW ⟨by omega, hn.2.2⟩ (by omega) (by omega)) (by omega) (N := 64) (by omega)
      have ei : (((tm_v μ 65 20 * a + b).toNat : Nat) : Int) = tm_v μ 65 20 * a + b := by omega
      have sx : sm (rw_mi μ n m o v) (tm_v μ 65 20 * a + (b + 1)).toNat = x + rw_mi μ n m o v (tm_v μ 65 20 * a + b) := by
        rw [show (tm_v μ 65 20 * a + (b + 1)).toNat = (tm_v μ 65 20 * a + b).toNat + 1 by omega, sm, ← hx, ei]
      have sy : sm (rw_li μ n m o v) (tm_v μ 65 20 * a + (b + 1)).toNat = y + rw_li μ n m o v (tm_v μ 65 20 * a + b) := by
        rw [show (tm_v μ 65 20 * a + (b + 1)).toNat = (tm_v μ 65 20 * a + b).toNat + 1 by omega, sm, ← hy, ei]
      have go : ∀ x' y', x' = x + rw_mi μ n m o v (tm_v μ 65 20 * a + b) → y' = y + rw_li μ n m o v (tm_v μ 65 20 * a + b) → hV wX6_findRows μ mX6_findRows d (o_rows μ n m o) 99 [(0, 2, 65), (1, 0, n), (2, 0, m), (3, 0, o), (4, 0, 5 ^ m.toNat), (5, 0, v), (7, 1, x'), (9, 1, y'), (11, 0, a), (12, 0, b + 1)] [] mm :=
        fun x' y' h1 h2 => ih (b + 1) x' y' (by omega) (by omega) (by rw [sx, h1]) (by rw [sy, h2]) kk
      have mi := rw_mi_in (n := n) (m := m) (o := o) (v := v) (i := tm_v μ 65 20 * a + b) hW (by omega) (by omega)
      have li := rw_li_in (n := n) (m := m) (o := o) (v := v) (i := tm_v μ 65 20 * a + b) hW ⟨by omega, hn.2.2⟩ (by omega) (by omega)
      have e1 : w32 (b + 1) = b + 1 := w32_id (by omega) (by omega)
      have en : w32 (n + 1) = n + 1 := w32_id (by omega) (by omega)
      refine uX6_findRows_99 (by omega) hf ⟨fun c => by omega, fun c => ⟨⟨pa, pb⟩, fun c2 => ?_, fun c2 => ?_⟩⟩
      · have et : rw_t μ n m o v (tm_v μ 65 20 * a + b) = y_rows μ (row1 (tm_v mm 92) o) (row2 (tm_v mm 92) o) n a b := by
          unfold rw_t
          rw [dm.1, dm.2, if_neg c2]
          refine y_rows_congr (by omega) (fun j j0 j1 => ?_)
          unfold row1 row2
          rcases ho with e | e
          · rw [if_pos e] at hm
            rw [if_pos e, if_pos e, if_pos e, if_pos e, h92 _ (by omega) (by omega), h92 _ (by omega) (by omega)]
            exact ⟨rfl, rfl⟩
          · have eo : ¬ o = 0 := by omega
            rw [if_neg eo] at hm
            rw [if_neg eo, if_neg eo, if_neg eo, if_neg eo, h92 _ (by omega) (by omega)]
            exact ⟨rfl, rfl⟩
        refine tC.I (pX6_byRowsF (by omega) hf (tWs_T rfl) pa pb ⟨by omega, hn.2.1, hn.2.2⟩ (fun k k0 k1 => by rw [h92 k k0 (by omega)]; exact dg_in _ _ _)) ?_
        rintro r m2 f2 rfl
        rw [f2.same, e1, en, ← et]
        have emi : rw_mi μ n m o v (tm_v μ 65 20 * a + b) = if rw_t μ n m o v (tm_v μ 65 20 * a + b) < 0 then y_likely μ a b else 0 := by unfold rw_mi; rw [dm.1, dm.2]
        have eli : rw_li μ n m o v (tm_v μ 65 20 * a + b) = y_likely μ a b * (if rw_t μ n m o v (tm_v μ 65 20 * a + b) < 0 then n + 1 else rw_t μ n m o v (tm_v μ 65 20 * a + b)) := by unfold rw_li; rw [dm.1, dm.2]
        refine ⟨fun c3 => ?_, fun c3 => ?_⟩
        · rw [if_neg (by omega)] at emi eli
          rintro _ rfl
          refine ⟨fun _ => ?_, fun c4 => by omega⟩
          rintro _ rfl
          rw [← eli, w64_id (x := rw_li μ n m o v (tm_v μ 65 20 * a + b)) (by omega) (by omega), w64_id (x := x + 0) (by omega) (by omega), w64_id (x := y + rw_li μ n m o v (tm_v μ 65 20 * a + b)) (by omega) (by omega)]
          exact go _ _ (by omega) rfl
        · rw [if_pos c3] at emi eli
          rintro _ rfl
          refine ⟨fun c4 => by omega, fun _ => ?_⟩
          rintro _ rfl
          rw [← eli, ← emi, w64_id (x := rw_li μ n m o v (tm_v μ 65 20 * a + b)) (by omega) (by omega), w64_id (x := x + rw_mi μ n m o v (tm_v μ 65 20 * a + b)) (by omega) (by omega), w64_id (x := y + rw_li μ n m o v (tm_v μ 65 20 * a + b)) (by omega) (by omega)]
          exact go _ _ rfl rfl
      · have emi : rw_mi μ n m o v (tm_v μ 65 20 * a + b) = 0 := by unfold rw_mi rw_t; rw [dm.1, dm.2, if_pos c2, if_neg (by decide)]
        have eli : rw_li μ n m o v (tm_v μ 65 20 * a + b) = 0 := by unfold rw_li; rw [dm.1, dm.2, c2, Int.zero_mul]
        rintro _ rfl _ rfl
        rw [e1, c2, Int.zero_mul, w64_id (x := x + 0) (by omega) (by omega), w64_id (x := (0 : Int)) (by omega) (by omega), w64_id (x := y + 0) (by omega) (by omega)]
        exact go _ _ (by omega) (by omega)
  -- all pairs, then the comparison
  have outer : ∀ (v : Int) (st : Int × Int × Int) (mm : tm_M), tFr wX6_findRows μ mm → (∀ j, 0 ≤ j → j < m → tm_v mm 92 j = dg m v j) → rw_h μ m o st mm →
      (∀ mm', tFr wX6_findRows μ mm' → rw_h μ m o (rw_s μ n m o v st) mm' → hV wX6_findRows μ mX6_findRows d (o_rows μ n m o) 34 [(0, 2, 65), (1, 0, n), (2, 0, m), (3, 0, o), (4, 0, 5 ^ m.toNat), (5, 0, w32 (v + 1))] [] mm') →
      ∀ (q : Nat) (a : Int), 0 ≤ a → a + q = tm_v μ 65 20 → hV wX6_findRows μ mX6_findRows d (o_rows μ n m o) 87 [(0, 2, 65), (1, 0, n), (2, 0, m), (3, 0, o), (4, 0, 5 ^ m.toNat), (5, 0, v), (7, 1, sm (rw_mi μ n m o v) (tm_v μ 65 20 * a).toNat), (9, 1, sm (rw_li μ n m o v) (tm_v μ 65 20 * a).toNat), (11, 0, a)] [] mm := by
    intro v st mm hf h92 hh kk q
    induction q with
    | zero =>
      intro a a0 aq
      have hM : sm (rw_mi μ n m o v) (tm_v μ 65 20 * a).toNat = rw_m μ n m o v := by rw [show a = tm_v μ 65 20 by omega]; rfl
      have hL : sm (rw_li μ n m o v) (tm_v μ 65 20 * a).toNat = rw_l μ n m o v := by rw [show a = tm_v μ 65 20 by omega]; rfl
      rw [hM, hL]
      have hM0 := rw_m_0 (n := n) (m := m) (o := o) (v := v) hW
      have better : ¬ (0 ≤ st.1 ∧ (st.1 < rw_m μ n m o v ∨ (rw_m μ n m o v = st.1 ∧ st.2.1 ≤ rw_l μ n m o v))) → ∀ mm1, mm1 = tm_w mm 65 63 (rw_m μ n m o v) → ∀ mm2, mm2 = tm_w mm1 65 64 (rw_l μ n m o v) → hV wX6_findRows μ mX6_findRows d (o_rows μ n m o) 256 [(0, 2, 65), (1, 0, n), (2, 0, m), (3, 0, o), (4, 0, 5 ^ m.toNat), (5, 0, v), (11, 0, 0)] [] mm2 := by
        rintro hb _ rfl _ rfl
        have f1 := hf.w (x := rw_m μ n m o v) (tWs_inF (a := 65) (j := 63) rfl) (tS_wj hf.S _ (by decide))
        have f2 := f1.w (x := rw_l μ n m o v) (tWs_inF (a := 65) (j := 64) rfl) (tS_wj f1.S _ (by decide))
        have es : rw_s μ n m o v st = (rw_m μ n m o v, rw_l μ n m o v, v) := by unfold rw_s; rw [if_neg hb]
        refine copy v (rw_m μ n m o v) (rw_l μ n m o v) m.toNat 0 _ (by omega) (by omega) f2 (by simp [tm_vw]) (by simp [tm_vw]) (fun j j0 j1 => by rw [tm_vw, if_neg (by omega), tm_vw, if_neg (by omega)]; exact h92 j j0 j1) (fun co => ⟨fun j j0 j1 => by omega, ?_⟩) (fun co => ⟨fun j j0 j1 => by omega, ?_⟩) (fun mm' f' g63 g64 g90 g91 => kk mm' f' ?_)
        · rw [vw_ne _ _ _ (by decide), vw_ne _ _ _ (by decide)]; exact (hh.2.2.1 co).2
        · rw [vw_ne _ _ _ (by decide), vw_ne _ _ _ (by decide)]; exact (hh.2.2.2 co).2
        · rw [es]
          exact ⟨g63, by rw [if_pos hM0]; exact g64, fun co => ⟨fun _ => (g90 co).1, (g90 co).2⟩, fun co => ⟨fun _ => (g91 co).1, (g91 co).2⟩⟩
      have worse : (0 ≤ st.1 ∧ (st.1 < rw_m μ n m o v ∨ (rw_m μ n m o v = st.1 ∧ st.2.1 ≤ rw_l μ n m o v))) → hV wX6_findRows μ mX6_findRows d (o_rows μ n m o) 34 [(0, 2, 65), (1, 0, n), (2, 0, m), (3, 0, o), (4, 0, 5 ^ m.toNat), (5, 0, w32 (v + 1))] [] mm := by
        intro hb
        refine kk mm hf ?_
        unfold rw_s
        rw [if_pos hb]
        exact hh
      refine uX6_findRows_87 hf ⟨fun c => ?_, fun c => by omega⟩
      rw [hh.1]
      refine ⟨fun c2 => better (by omega), fun c2 => ⟨fun c3 => worse ⟨c2, Or.inl c3⟩, fun c3 => ⟨fun c4 => better (by omega), fun c4 => ?_⟩⟩⟩
      have e64 := hh.2.1
      rw [if_pos c2] at e64
      rw [e64]
      exact ⟨fun c5 => better (by omega), fun c5 => worse ⟨c2, Or.inr ⟨c4, c5⟩⟩⟩
    | succ q ih =>
      intro a a0 aq
      refine uX6_findRows_87 hf ⟨fun c => by omega, fun c => ?_⟩
      exact inner v mm hf h92 a a0 c (tm_v μ 65 20).toNat 0 _ _ (by omega) (by omega) (by rw [Int.add_zero]) (by rw [Int.add_zero]) (ih (a + 1) (by omega) (by omega))
  -- the digits of a number
  have digits : ∀ (v : Int) (st : Int × Int × Int), 0 ≤ v → v < 5 ^ m.toNat → (∀ mm', tFr wX6_findRows μ mm' → rw_h μ m o (rw_s μ n m o v st) mm' → hV wX6_findRows μ mX6_findRows d (o_rows μ n m o) 34 [(0, 2, 65), (1, 0, n), (2, 0, m), (3, 0, o), (4, 0, 5 ^ m.toNat), (5, 0, w32 (v + 1))] [] mm') →
      ∀ (q : Nat) (mm : tm_M), (q : Int) ≤ m → tFr wX6_findRows μ mm → rw_h μ m o st mm → (∀ j, (q : Int) ≤ j → j < m → tm_v mm 92 j = dg m v j) →
      hV wX6_findRows μ mX6_findRows d (o_rows μ n m o) 50 [(0, 2, 65), (1, 0, n), (2, 0, m), (3, 0, o), (4, 0, 5 ^ m.toNat), (5, 0, v), (6, 0, v / 5 ^ (m - q).toNat), (7, 0, (q : Int) - 1)] [] mm := by
    intro v st v0 v1 kk q
    induction q with
    | zero =>
      intro mm qm hf hh h92
      refine uX6_findRows_50 hf ⟨fun c => ?_, fun c => by omega⟩
      have h8 := outer v st mm hf h92 hh kk (tm_v μ 65 20).toNat 0 (by omega) (by omega)
      rw [Int.mul_zero] at h8
      exact h8
    | succ q ih =>
      intro mm qm hf hh h92
      have eq : ((q + 1 : Nat) : Int) - 1 = q := by omega
      have w0 : 0 ≤ v / 5 ^ (m - ((q + 1 : Nat) : Int)).toNat := Int.ediv_nonneg v0 (Int.le_of_lt (Int.pow_pos (by decide)))
      have w1 : v / 5 ^ (m - ((q + 1 : Nat) : Int)).toNat ≤ v := Int.ediv_le_self _ v0
      rw [eq]
      refine uX6_findRows_50 hf ⟨fun c => by omega, fun c => ⟨by omega, ?_⟩⟩
      rintro _ rfl _ rfl
      have e5 : (v / 5 ^ (m - ((q + 1 : Nat) : Int)).toNat).tdiv 5 = v / 5 ^ (m - (q : Int)).toNat := by
        rw [Int.tdiv_eq_ediv_of_nonneg w0, Int.ediv_ediv_of_nonneg (Int.le_of_lt (Int.pow_pos (by decide))), show (m - (q : Int)).toNat = (m - ((q + 1 : Nat) : Int)).toNat + 1 by omega, Int.pow_succ]
      have w2 : 0 ≤ v / 5 ^ (m - (q : Int)).toNat := Int.ediv_nonneg v0 (Int.le_of_lt (Int.pow_pos (by decide)))
      have w3 : v / 5 ^ (m - (q : Int)).toNat ≤ v := Int.ediv_le_self _ v0
      rw [e5, w32_id (x := v / 5 ^ (m - (q : Int)).toNat) (by omega) (by omega), w32_id (x := (q : Int) + -1) (by omega) (by omega), Int.tmod_eq_emod_of_nonneg w0]
      have f1 := hf.w (j := (q : Int)) (x := v / 5 ^ (m - ((q + 1 : Nat) : Int)).toNat % 5) (tWs_in (a := 92) _ rfl) (tS_w hf.S sf_92 _ _)
      refine ih _ (by omega) f1 ?_ (fun j j0 j1 => ?_)
      · refine ⟨by rw [tm_vw, if_neg (by omega)]; exact hh.1, by rw [tm_vw, if_neg (by omega)]; exact hh.2.1, fun co => ?_, fun co => ?_⟩
        · rw [vw_ne _ _ _ (by decide), vw_ne _ _ _ (by decide)]; exact hh.2.2.1 co
        · rw [vw_ne _ _ _ (by decide), vw_ne _ _ _ (by decide)]; exact hh.2.2.2 co
      · rw [tm_vw]
        by_cases e : j = q
        · rw [if_pos ⟨rfl, e⟩, e]
          unfold dg
          rw [show (m - 1 - (q : Int)).toNat = (m - ((q + 1 : Nat) : Int)).toNat by omega]
        · rw [if_neg (fun k => e k.2)]; exact h92 j (by omega) j1
  -- the numbers
  have nums : ∀ (q : Nat) (v : Int) (st : Int × Int × Int) (mm : tm_M), 0 ≤ v → v + q = 5 ^ m.toNat → tFr wX6_findRows μ mm → rw_h μ m o st mm → rw_f μ n m o q v st = rw_best μ n m o →
      hV wX6_findRows μ mX6_findRows d (o_rows μ n m o) 34 [(0, 2, 65), (1, 0, n), (2, 0, m), (3, 0, o), (4, 0, 5 ^ m.toNat), (5, 0, v)] [] mm := by
    intro q
    induction q with
    | zero =>
      intro v st mm v0 vq hf hh he
      rw [rw_f] at he
      have h0 := rw_best_0 (n := n) (m := m) (o := o) hW
      rw [← he] at h0
      refine uX6_findRows_34 hf ⟨fun c => ?_, fun c => by omega⟩
      unfold o_rows
      rw [← he]
      have e64 := hh.2.1
      rw [if_pos h0] at e64
      exact ⟨hh.1, e64, fun co => ⟨(hh.2.2.1 co).1 h0, (hh.2.2.1 co).2⟩, fun co => ⟨(hh.2.2.2 co).1 h0, (hh.2.2.2 co).2⟩⟩
    | succ q ih =>
      intro v st mm v0 vq hf hh he
      rw [rw_f] at he
      refine uX6_findRows_34 hf ⟨fun c => by omega, fun c => ?_⟩
      rintro _ rfl
      rw [w32_id (x := m - 1) (by omega) (by omega)]
      have h5 := digits v st v0 c (fun mm' f' hh' => by
        rw [w32_id (by omega) (by omega)]
        exact ih (v + 1) _ mm' (by omega) (by omega) f' hh' he) m.toNat mm (by omega) hf hh (fun j j0 j1 => by omega)
      rw [show (m - ((m.toNat : Nat) : Int)).toNat = 0 by omega, show ((m.toNat : Nat) : Int) = m by omega, Int.pow_zero, Int.ediv_one] at h5
      exact h5
  have pows : ∀ (q : Nat) (k : Int) (x : Int), 0 ≤ k → k + q = m → x = 5 ^ k.toNat → hV wX6_findRows μ mX6_findRows d (o_rows μ n m o) 6 [(0, 2, 65), (1, 0, n), (2, 0, m), (3, 0, o), (4, 0, x), (5, 0, k)] [] μ := by
    intro q
    induction q with
    | zero =>
      intro k x k0 kq hx
      refine uX6_findRows_6 (tFr.rf hs) ⟨fun c => ?_, fun c => by omega⟩
      rintro _ rfl
      rw [hx, show k = m by omega]
      refine nums (5 ^ m.toNat) 0 (-1, 0, 0) _ (by omega) (by rw [Int.zero_add, Int.natCast_pow]; rfl) ((tFr.rf hs).w (tWs_inF rfl) (tS_wj hs _ (by decide))) ?_ rfl
      refine ⟨by simp [tm_vw], by simp, fun co => ⟨fun h => absurd h (by decide), vw_ne _ _ _ (by decide)⟩, fun co => ⟨fun h => absurd h (by decide), vw_ne _ _ _ (by decide)⟩⟩
    | succ q ih =>
      intro k x k0 kq hx
      have xb : 0 < x ∧ x ≤ 3125 := by
        rw [hx]
        have : k.toNat = 0 ∨ k.toNat = 1 ∨ k.toNat = 2 ∨ k.toNat = 3 ∨ k.toNat = 4 ∨ k.toNat = 5 := by omega
        rcases this with e | e | e | e | e | e <;> rw [e] <;> decide
      refine uX6_findRows_6 (tFr.rf hs) ⟨fun c => by omega, fun c => ?_⟩
      rintro _ rfl
      rw [w32_id (x := x * 5) (by omega) (by omega), w32_id (x := k + 1) (by omega) (by omega)]
      exact ih (k + 1) _ (by omega) (by omega) (by rw [hx, show (k + 1).toNat = k.toNat + 1 by omega, Int.pow_succ])
  exact t_of (uX6_findRows_0 (tFr.rf hs) (pows m.toNat 0 1 (by omega) (by omega) rfl))
end C6N
