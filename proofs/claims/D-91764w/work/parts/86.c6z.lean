/-! CONTRACTS of the model: value -/
section C6Z
variable {d : Nat} {μ μ0 : tm_M} {W : Int → Int → Prop}
theorem g_T_FV : g_T wX6_findValue := ⟨fun j => tWs_no _ rfl, tWs_noF rfl, tWs_noF rfl⟩
theorem g_T_FC : g_T wX6_findChances := ⟨fun j => tWs_no _ rfl, tWs_noF rfl, tWs_noF rfl⟩
theorem g_T_3 : g_T (tWs [103] []) := ⟨fun j => tWs_no _ rfl, tWs_noF rfl, tWs_noF rfl⟩
theorem ln1_F (hs : tFr W μ0 μ) (hT : g_T W) (k : Int) : ln1 μ k = ln1 μ0 k := by unfold ln1; simp only [g_c_F hs hT]
theorem av1_F (hs : tFr W μ0 μ) (hT : g_T W) (k : Int) : av1 μ k ↔ av1 μ0 k := by unfold av1; rw [hs.v hT.2.1, hs.v hT.2.2]
theorem ln2_F (hs : tFr W μ0 μ) (hT : g_T W) (vt vb k : Int) : ln2 μ vt vb k = ln2 μ0 vt vb k := by unfold ln2; simp only [g_c_F hs hT]
theorem av2_F (hs : tFr W μ0 μ) (hT : g_T W) (k : Int) : av2 μ k ↔ av2 μ0 k := by unfold av2; rw [hs.v hT.2.1, hs.v hT.2.2]
def S1 (μ : tm_M) : List V3 := (([0, 1, 2, 3, 4, 5] : List Int).filter (fun k => decide (k < 3 ∨ (k = 3 ∧ 1 < tm_v μ 65 73) ∨ (4 ≤ k ∧ 2 < tm_v μ 65 73)))).map (ln1 μ)
theorem mem_S1 {a : V3} : a ∈ S1 μ ↔ ∃ k : Int, (0 ≤ k ∧ k < 6) ∧ (k < 3 ∨ (k = 3 ∧ 1 < tm_v μ 65 73) ∨ (4 ≤ k ∧ 2 < tm_v μ 65 73)) ∧ a = ln1 μ k := by
  unfold S1
  rw [List.mem_map]
  constructor
  · rintro ⟨k, hk, rfl⟩
    rw [List.mem_filter, decide_eq_true_eq] at hk
    refine ⟨k, ?_, hk.2, rfl⟩
    have := hk.1
    simp only [List.mem_cons, List.not_mem_nil, or_false] at this
    omega
  · rintro ⟨k, hk, h, rfl⟩
    refine ⟨k, ?_, rfl⟩
    rw [List.mem_filter, decide_eq_true_eq]
    refine ⟨?_, h⟩
    simp only [List.mem_cons, List.not_mem_nil, or_false]
    omega
theorem hasE_S1 : hasE (S1 μ) := ⟨mem_S1.mpr ⟨0, by decide, Or.inl (by decide), rfl⟩, mem_S1.mpr ⟨1, by decide, Or.inl (by decide), rfl⟩, mem_S1.mpr ⟨2, by decide, Or.inl (by decide), rfl⟩⟩
theorem dfs_S1 (hG : y_G μ) : dfs (S1 μ) (g_C μ) := by
  intro c hc g hg
  obtain ⟨i, hi, rfl⟩ := mem_C.mp hc
  obtain ⟨j, hj, rfl⟩ := mem_C.mp hg
  have hK := hG.2.1
  have h1 : i = 0 ∨ i = 1 ∨ i = 2 := by omega
  have h2 : j = 0 ∨ j = 1 ∨ j = 2 := by omega
  have m3 : 1 < tm_v μ 65 73 → cb 1 (g_c μ 0) (-1) (g_c μ 1) ∈ S1 μ := fun h => mem_S1.mpr ⟨3, by decide, Or.inr (Or.inl ⟨rfl, h⟩), rfl⟩
  have m4 : 2 < tm_v μ 65 73 → cb 1 (g_c μ 0) (-1) (g_c μ 2) ∈ S1 μ := fun h => mem_S1.mpr ⟨4, by decide, Or.inr (Or.inr ⟨by decide, h⟩), rfl⟩
  have m5 : 2 < tm_v μ 65 73 → cb 1 (g_c μ 1) (-1) (g_c μ 2) ∈ S1 μ := fun h => mem_S1.mpr ⟨5, by decide, Or.inr (Or.inr ⟨by decide, h⟩), rfl⟩
  rcases h1 with rfl | rfl | rfl <;> rcases h2 with rfl | rfl | rfl
  · exact Or.inl rfl
  · exact Or.inr (Or.inl (m3 hj.2))
  · exact Or.inr (Or.inl (m4 hj.2))
  · exact Or.inr (Or.inr (m3 hi.2))
  · exact Or.inl rfl
  · exact Or.inr (Or.inl (m5 hj.2))
  · exact Or.inr (Or.inr (m4 hi.2))
  · exact Or.inr (Or.inr (m5 hi.2))
  · exact Or.inl rfl
/-- the crossing of two lines (or of one with the ground's edge) is seen -/
def cv1 (μ m : tm_M) (k l : Int) : Prop := ∀ r u, dl (tm_v μ 65 72) r → cr (ln1 μ k) (ln1 μ l) ≠ (0, 0, 0) → eqv r (cr (ln1 μ k) (ln1 μ l)) → isMx (g_C μ) r u → cvd m r u
def cv2 (μ m : tm_M) (k : Int) : Prop := ∀ r u, dl (tm_v μ 65 72) r → cr (0, 0, 1) (ln1 μ k) ≠ (0, 0, 0) → eqv r (cr (0, 0, 1) (ln1 μ k)) → isMx (g_C μ) r u → cvd m r u
theorem cvd_F (hs : tFr W μ0 μ) (h7 : ¬ W 65 77) (h8 : ¬ W 65 78) {r : V3} {u : Int} : cvd μ r u ↔ cvd μ0 r u := by unfold cvd; rw [hs.v h7, hs.v h8]
theorem VI0_F (hs : tFr W μ0 μ) (hT : g_T W) (h7 : ¬ W 65 77) (h8 : ¬ W 65 78) : VI0 μ ↔ VI0 μ0 := by unfold VI0; rw [hs.v h7, hs.v h8, att_F hs hT]
theorem eb_of2 {c : Int} (hR : tm_v μ 65 72 = 2) (hc : c ≤ 20000000) (h : ebp μ 0 c) : eb μ := by
  intro j j0 j1
  unfold ebp at h
  have : j = 3 * 0 ∨ j = 3 * 0 + 1 ∨ j = 3 * 0 + 2 := by omega
  rcases this with e | e | e <;> rw [e] <;> omega
theorem eb_of3 {c : Int} (hR : tm_v μ 65 72 = 3) (hc : c ≤ 20000000) (h : ebp μ 0 c) (h' : ebp μ 1 c) : eb μ := by
  intro j j0 j1
  unfold ebp at h h'
  have : j = 3 * 0 ∨ j = 3 * 0 + 1 ∨ j = 3 * 0 + 2 ∨ j = 3 * 1 ∨ j = 3 * 1 + 1 ∨ j = 3 * 1 + 2 := by omega
  rcases this with e | e | e | e | e | e <;> rw [e] <;> omega
theorem rawc_sm2 (hR : tm_v μ 65 72 = 2) : sm3 (rawc μ) = tm_v μ 103 0 := by
  unfold rawc; rw [if_neg (by omega), if_pos hR, tri_sm]
theorem rawc_sm3 (hR : tm_v μ 65 72 = 3) : sm3 (rawc μ) = tm_v μ 103 0 * tm_v μ 103 4 - tm_v μ 103 1 * tm_v μ 103 3 := by
  unfold rawc; rw [if_neg (by omega), if_neg (by omega), tri_sm]
theorem pX6_findValue (hd : 4 ≤ d) (hs : tS μ) (hG : y_G μ) : cV wX6_findValue mX6_findValue d [(2, 65)] μ (fun m => VI0 m ∧ 0 < tm_v m 65 78 ∧ ∀ q u, dl (tm_v μ 65 72) q → isMx (g_C μ) q u → tm_v m 65 77 * sm3 q ≤ u * tm_v m 65 78) := by
  have hR := hG.1
  have hR3 : tm_v μ 65 72 = 1 ∨ tm_v μ 65 72 = 2 ∨ tm_v μ 65 72 = 3 := by omega
  -- the end
  have fin : ∀ m, VI0 m → (∀ r u, dl (tm_v μ 65 72) r → crn (tm_v μ 65 72) (S1 μ) r → isMx (g_C μ) r u → cvd m r u) → VI0 m ∧ 0 < tm_v m 65 78 ∧ ∀ q u, dl (tm_v μ 65 72) q → isMx (g_C μ) q u → tm_v m 65 77 * sm3 q ≤ u * tm_v m 65 78 := by
    intro m hV hc
    have hne : g_C μ ≠ [] := by
      intro h
      have : g_c μ 0 ∈ g_C μ := mem_C.mpr ⟨0, by have := hG.2.1; omega, rfl⟩
      rw [h] at this
      exact absurd this List.not_mem_nil
    have h8 : 0 < tm_v m 65 78 := by
      obtain ⟨r, r1, r2, _, _⟩ := cnR (1, 0, 0) (0, 1, 0) (0, 0, 0) hR3 (hasE_S1 (μ := μ)) (show dl (tm_v μ 65 72) (1, 0, 0) from ⟨⟨by decide, by decide, by decide⟩, by decide, fun _ => rfl, fun _ => rfl⟩)
      obtain ⟨u, hu⟩ := isMx_ex hne r
      exact (hc r u r1 r2 hu).1
    exact ⟨hV, h8, val_of hR3 hasE_S1 (dfs_S1 hG) h8 (fun r u h1 h2 h3 => (hc r u h1 h2 h3).2)⟩
  have hT := g_T_FV
  -- one try
  have try_ : ∀ m c, tFr wX6_findValue μ m → VI0 m → (tm_v μ 65 72 = 1 ∨ (tm_v μ 65 72 = 2 ∧ ebp m 0 200) ∨ (tm_v μ 65 72 = 3 ∧ ebp m 0 200 ∧ ebp m 1 200)) → pm (rawc m) c → cV wX6_valued mX6_valued (d - 1) [(2, 65)] m (fun m' => VI0 m' ∧ (∀ r u, 0 < sm3 r → cvd m r u → cvd m' r u) ∧ ∀ r u, dl (tm_v μ 65 72) r → c ≠ (0, 0, 0) → eqv r c → isMx (g_C μ) r u → cvd m' r u) := by
    intro m c hm hV he hp
    have e72 : tm_v m 65 72 = tm_v μ 65 72 := hm.v (tWs_noF rfl)
    have heb : eb m := by
      rcases he with h | ⟨h, h1⟩ | ⟨h, h1, h2⟩
      · intro j j0 j1; omega
      · exact eb_of2 (by omega) (by omega) h1
      · exact eb_of3 (by omega) (by omega) h1 h2
    have hsm : ((sm3 (rawc m)).natAbs : Int) ≤ 80000 := by
      rcases he with h | ⟨h, h1⟩ | ⟨h, h1, h2⟩
      · rw [rawc_1 (by omega)]; decide
      · rw [rawc_sm2 (by omega)]
        unfold ebp at h1
        rw [show (3 : Int) * 0 = 0 by decide] at h1
        omega
      · rw [rawc_sm3 (by omega)]
        unfold ebp at h1 h2
        rw [show (3 : Int) * 0 = 0 by decide, show (0 : Int) + 1 = 1 by decide] at h1
        rw [show (3 : Int) * 1 = 3 by decide, show (3 : Int) + 1 = 4 by decide] at h2
        have a := mul_in h1.1 h2.2.1
        have b := mul_in h1.2.1 h2.1
        omega
    refine tC.V (pX6_valued (by omega) hm.S ((y_G_F hm hT).mpr hG) heb hsm hV) ?_
    rintro m' fm' ⟨a1, a2, a3⟩
    refine ⟨a1, a2, fun r u hr hc he2 hu => ?_⟩
    refine a3 r u (by rw [e72]; exact hr) (pm_ne hp hc) (pm_eqv hp he2) (by rw [g_C_F hm hT]; exact hu)
  -- R = 3: the inner loop
  have inner : tm_v μ 65 72 = 3 → ∀ (k : Int), 0 ≤ k → k < 6 → ∀ (q : Nat) (l : Int) (m : tm_M), k < l → l + q = 6 → tFr wX6_findValue μ m → VI0 m → av1 μ k → ebp m 0 200 → pm (efm m 0) (ln1 μ k) → (∀ k' l', 0 ≤ k' → k' < k → k' < l' → l' < 6 → av1 μ k' → av1 μ l' → cv1 μ m k' l') → (∀ l', k < l' → l' < l → av1 μ l' → cv1 μ m k l') →
      (∀ m, tFr wX6_findValue μ m → VI0 m → (∀ k' l', 0 ≤ k' → k' < k + 1 → k' < l' → l' < 6 → av1 μ k' → av1 μ l' → cv1 μ m k' l') → hV wX6_findValue μ mX6_findValue d (fun m => VI0 m ∧ 0 < tm_v m 65 78 ∧ ∀ q u, dl (tm_v μ 65 72) q → isMx (g_C μ) q u → tm_v m 65 77 * sm3 q ≤ u * tm_v m 65 78) 19 [(0, 2, 65), (1, 0, k + 1)] [] m) →
      hV wX6_findValue μ mX6_findValue d (fun m => VI0 m ∧ 0 < tm_v m 65 78 ∧ ∀ q u, dl (tm_v μ 65 72) q → isMx (g_C μ) q u → tm_v m 65 77 * sm3 q ≤ u * tm_v m 65 78) 61 [(0, 2, 65), (1, 0, k), (2, 0, l)] [] m := by
    intro h3 k k0 k6 q
    have ek : w32 (k + 1) = k + 1 := w32_id (by omega) (by omega)
    induction q with
    | zero =>
      intro l m hkl hlq hm hV hav hb hpm hold hnew kk
      refine uX6_findValue_61 (by omega) hm ⟨fun _ => ?_, fun c => by omega⟩
      rw [ek]
      refine kk m hm hV (fun k' l' a b c e f g => ?_)
      by_cases x : k' = k
      · rw [x]; exact hnew l' (by omega) (by omega) g
      · exact hold k' l' a (by omega) c e f g
    | succ q ih =>
      intro l m hkl hlq hm hV hav hb hpm hold hnew kk
      have el : w32 (l + 1) = l + 1 := w32_id (by omega) (by omega)
      refine uX6_findValue_61 (by omega) hm ⟨fun c => by omega, fun _ => ⟨fun c => absurd h3 c, fun _ => ?_⟩⟩
      rw [el]
      refine tC.I (pX6_isSet (by omega) hm.S ((y_G_F hm hT).mpr hG) (by decide) (by omega)) ?_
      rintro r m1 f1 ⟨hr, hr1, hr2, hr3⟩
      refine ⟨fun c => ?_, fun c => ?_⟩
      · have e1 := hr2 c
        subst e1
        refine ih (l + 1) m1 (by omega) (by omega) hm hV hav hb hpm hold (fun l' a b e => ?_) kk
        by_cases x : l' = l
        · exfalso
          rw [x] at e
          have := hr1.mpr ((av1_F hm hT l).mpr e)
          omega
        · exact hnew l' a (by omega) e
      · have e1 : r = 1 := by omega
        obtain ⟨s1, s2, s3⟩ := hr3 e1
        have F1 : tFr wX6_findValue μ m1 := hm.tr f1 (tWs_sub rfl)
        refine tC.I (pX6_isSet (by omega) F1.S ((y_G_F F1 hT).mpr hG) (by decide) (by omega)) ?_
        rintro r' m2 f2 ⟨gr, gr1, gr2, gr3⟩
        have e2 : r' = 1 := gr1.mpr ((av1_F F1 hT k).mpr hav)
        refine ⟨fun _ => ?_, fun c => by omega⟩
        obtain ⟨t1, t2, t3⟩ := gr3 e2
        have F2 : tFr wX6_findValue μ m2 := F1.tr f2 (tWs_sub rfl)
        have V2 : VI0 m2 := (VI0_F (hs := f2.tr (W := tWs [103] []) (tFr.rf f2.S) (fun _ _ h => h)) g_T_3 (tWs_noF rfl) (tWs_noF rfl)).mpr ((VI0_F f1 g_T_3 (tWs_noF rfl) (tWs_noF rfl)).mpr hV)
        have c2 : ∀ r u, cvd m2 r u ↔ cvd m r u := fun r u => (cvd_F f2 (tWs_noF rfl) (tWs_noF rfl)).trans (cvd_F f1 (tWs_noF rfl) (tWs_noF rfl))
        have em1 : tm_v m1 65 72 = 3 := by rw [F1.v (tWs_noF rfl)]; exact h3
        have em : tm_v m 65 72 = 3 := by rw [hm.v (tWs_noF rfl)]; exact h3
        have em2 : tm_v m2 65 72 = 3 := by rw [F2.v (tWs_noF rfl)]; exact h3
        have x1 : ∀ j, 3 ≤ j → tm_v m2 103 j = tm_v m1 103 j := fun j hj => t1 j (by omega) (by omega) (by omega)
        have eE : efm m2 1 = efm m1 1 := by unfold efm; rw [em1, em2, x1 _ (by omega), x1 _ (by omega), x1 _ (by omega)]
        have b21 : ebp m2 1 200 := by unfold ebp at s2 ⊢; rw [x1 _ (by omega), x1 _ (by omega), x1 _ (by omega)]; exact s2
        have p0 : pm (efm m2 0) (ln1 μ k) := by have := t3.1 em1; rw [ln1_F F1 hT] at this; exact this
        have p1 : pm (efm m2 1) (ln1 μ l) := by have := s3.1 em; rw [ln1_F hm hT] at this; rw [eE]; exact this
        refine tC.V (try_ m2 (cr (ln1 μ k) (ln1 μ l)) F2 V2 (Or.inr (Or.inr ⟨h3, t2, b21⟩)) (by rw [rawc_3 em2]; exact pm_cr p0 p1)) ?_
        rintro m3 f3 ⟨a1, a2, a3⟩
        have F3 : tFr wX6_findValue μ m3 := F2.tr f3 (tWs_sub rfl)
        have v103 : ∀ j, tm_v m3 103 j = tm_v m2 103 j := fun j => f3.v (tWs_no _ rfl)
        have em3 : tm_v m3 65 72 = 3 := by rw [F3.v (tWs_noF rfl)]; exact h3
        have lift : ∀ k' l', cv1 μ m k' l' → cv1 μ m3 k' l' := fun k' l' h r u hr hc he hu => a2 r u hr.2.1 ((c2 r u).mpr (h r u hr hc he hu))
        refine ih (l + 1) m3 (by omega) (by omega) F3 a1 hav (by unfold ebp at t2 ⊢; simp only [v103]; exact t2) (by unfold efm at p0 ⊢; rw [em3, v103, v103, v103]; rw [em2] at p0; exact p0) (fun k' l' a b c e f g => lift _ _ (hold k' l' a b c e f g)) (fun l' a b e => ?_) kk
        by_cases x : l' = l
        · rw [x]; exact fun r u hr hc he hu => a3 r u hr hc he hu
        · exact lift _ _ (hnew l' a (by omega) e)
  have outer : ∀ (q : Nat) (k : Int) (m : tm_M), 0 ≤ k → k + q = 6 → tFr wX6_findValue μ m → VI0 m → (tm_v μ 65 72 = 3 → ∀ k' l', 0 ≤ k' → k' < k → k' < l' → l' < 6 → av1 μ k' → av1 μ l' → cv1 μ m k' l') → (tm_v μ 65 72 = 2 → ∀ k', 0 ≤ k' → k' < k → av1 μ k' → cv2 μ m k') → 1 < tm_v μ 65 72 → hV wX6_findValue μ mX6_findValue d (fun m => VI0 m ∧ 0 < tm_v m 65 78 ∧ ∀ q u, dl (tm_v μ 65 72) q → isMx (g_C μ) q u → tm_v m 65 77 * sm3 q ≤ u * tm_v m 65 78) 19 [(0, 2, 65), (1, 0, k)] [] m := by
    intro q
    induction q with
    | zero =>
      intro k m k0 kq hm hV h3 h2 h1
      refine uX6_findValue_19 (by omega) hm ⟨fun _ => fin m hV (fun r u hr hc hu => ?_), fun c => by omega⟩
      rcases hc with ⟨e, a, ha, b, hb, hc, he⟩ | ⟨e, b, hb, hc, he⟩ | ⟨e, _⟩
      · obtain ⟨i, hi, hi2, rfl⟩ := mem_S1.mp ha
        obtain ⟨j, hj, hj2, rfl⟩ := mem_S1.mp hb
        have ai : av1 μ i := by unfold av1; omega
        have aj : av1 μ j := by unfold av1; omega
        rcases Int.lt_trichotomy i j with x | x | x
        · exact h3 e i j hi.1 (by omega) x hj.2 ai aj r u hr hc he hu
        · exfalso; apply hc; rw [x]; simp only [cr]; refine Prod.ext ?_ (Prod.ext ?_ ?_) <;> dsimp only <;> grind
        · exact h3 e j i hj.1 (by omega) x hi.2 aj ai r u hr (pm_ne (pm_sw _ _) hc) (pm_eqv (pm_sw _ _) he) hu
      · obtain ⟨j, hj, hj2, rfl⟩ := mem_S1.mp hb
        by_cases x : j = 2
        · exfalso; apply hc; rw [x]; rfl
        · have aj : av1 μ j := by unfold av1; omega
          exact h2 e j hj.1 (by omega) aj r u hr hc he hu
      · omega
    | succ q ih =>
      intro k m k0 kq hm hV h3 h2 h1
      have ek : w32 (k + 1) = k + 1 := w32_id (by omega) (by omega)
      refine uX6_findValue_19 (by omega) hm ⟨fun c => by omega, fun _ => ⟨fun c => by omega, fun _ => ?_⟩⟩
      rw [ek]
      refine tC.I (pX6_isSet (by omega) hm.S ((y_G_F hm hT).mpr hG) (by decide) (by omega)) ?_
      rintro r m1 f1 ⟨hr, hr1, hr2, hr3⟩
      refine ⟨fun c => ?_, fun c => ?_⟩
      · have e1 : r = 1 := by omega
        have hav : av1 μ k := (av1_F hm hT k).mp (hr1.mp e1)
        obtain ⟨s1, s2, s3⟩ := hr3 e1
        have F1 : tFr wX6_findValue μ m1 := hm.tr f1 (tWs_sub rfl)
        have V1 : VI0 m1 := (VI0_F f1 g_T_3 (tWs_noF rfl) (tWs_noF rfl)).mpr hV
        have c1 : ∀ r u, cvd m1 r u ↔ cvd m r u := fun r u => cvd_F f1 (tWs_noF rfl) (tWs_noF rfl)
        refine ⟨fun c2 => ?_, fun c2 => ?_⟩
        · have e3 : tm_v μ 65 72 = 3 := by omega
          rintro _ rfl
          have em : tm_v m 65 72 = 3 := by rw [hm.v (tWs_noF rfl)]; exact e3
          refine inner e3 k k0 (by omega) (6 - (k + 1)).toNat (k + 1) m1 (by omega) (by omega) F1 V1 hav s2 (by have := s3.1 em; rw [ln1_F hm hT] at this; exact this) (fun k' l' a b c e f g r u hr hc he hu => (c1 r u).mpr (h3 e3 k' l' a b c e f g r u hr hc he hu)) (fun l' a b e => by omega) (fun m' F' V' h' => ih (k + 1) m' (by omega) (by omega) F' V' (fun _ => h') (fun h => by omega) h1)
        · have em : tm_v m 65 72 = 2 := by rw [hm.v (tWs_noF rfl)]; exact c2
          have em1 : tm_v m1 65 72 = 2 := by rw [F1.v (tWs_noF rfl)]; exact c2
          refine tC.V (try_ m1 (cr (0, 0, 1) (ln1 μ k)) F1 V1 (Or.inr (Or.inl ⟨c2, s2⟩)) (by rw [rawc_2 em1]; have := s3.2 em; rw [ln1_F hm hT] at this; exact this)) ?_
          rintro m3 f3 ⟨a1, a2, a3⟩
          have F3 : tFr wX6_findValue μ m3 := F1.tr f3 (tWs_sub rfl)
          rintro _ rfl
          refine uX6_findValue_61 (by omega) F3 ⟨fun c => ?_, fun _ => ⟨fun _ => ?_, fun c => by omega⟩⟩
          all_goals
            rw [ek]
            refine ih (k + 1) m3 (by omega) (by omega) F3 a1 (fun h => by omega) (fun _ k' a b e => ?_) h1
            by_cases x : k' = k
            · rw [x]; exact fun r u hr hc he hu => a3 r u hr hc he hu
            · exact fun r u hr hc he hu => a2 r u hr.2.1 ((c1 r u).mpr (h2 c2 k' a (by omega) e r u hr hc he hu))
      · have e1 := hr2 c
        subst e1
        have hnav : ¬ av1 μ k := fun h => by have := hr1.mpr ((av1_F hm hT k).mpr h); omega
        refine ih (k + 1) m1 (by omega) (by omega) hm hV (fun e k' l' a b c e2 f g => ?_) (fun e k' a b c => ?_) h1
        · exact h3 e k' l' a (by by_cases x : k' = k; (rw [x] at f; exact absurd f hnav); omega) c e2 f g
        · exact h2 e k' a (by by_cases x : k' = k; (rw [x] at c; exact absurd c hnav); omega) c
  refine t_of (uX6_findValue_0 (by omega) (tFr.rf hs) ?_)
  rintro m1 e1
  have F1 : tFr wX6_findValue μ m1 := by rw [e1]; exact (tFr.rf hs).w (tWs_inF rfl) (tS_wj hs _ (by decide))
  have V1 : VI0 m1 := Or.inl (by rw [e1]; simp [tm_vw])
  refine ⟨fun c => ?_, fun c => ?_⟩
  · exact outer 6 0 m1 (by omega) (by omega) F1 V1 (fun _ k' l' a b => by omega) (fun _ k' a b => by omega) (by omega)
  · refine tC.V (try_ m1 (1, 0, 0) F1 V1 (Or.inl c) (by rw [rawc_1 (by rw [F1.v (tWs_noF rfl)]; exact c)]; exact pm_rf _)) ?_
    rintro m3 f3 ⟨a1, a2, a3⟩
    have F3 : tFr wX6_findValue μ m3 := F1.tr f3 (tWs_sub rfl)
    have dn := fin m3 a1 (fun r u hr hc hu => by
      rcases hc with ⟨e, _⟩ | ⟨e, _⟩ | ⟨_, he⟩
      · omega
      · omega
      · exact a3 r u hr (by decide) he hu)
    exact uX6_findValue_19 (by omega) F3 ⟨fun _ => dn, fun _ => ⟨fun _ => dn, fun c2 => by omega⟩⟩
end C6Z
