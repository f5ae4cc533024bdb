/-! CONTRACTS of the component: mean, wander -/
section C0K
variable {d : Nat} {μ μ0 ν : tm_M} {W : Int → Int → Prop} {a b w v : Int}
/-- answer, status, fraction of the component -/
def c_o (q : Int × Int × Int × Int) (r : Int) (m : tm_M) : Prop := r = q.1 ∧ tm_v m 1 10 = q.2.1 ∧ tm_v m 1 14 = q.2.2.1 ∧ tm_v m 1 15 = q.2.2.2
/-- both hold one fraction -/
def JF (μ ν : tm_M) : Prop := tm_v μ 1 14 = tm_v ν 65 2 ∧ tm_v μ 1 15 = tm_v ν 65 3
theorem c_fr_v (t b : Int) : tm_v (c_fr μ t b) 1 10 = 0 ∧ tm_v (c_fr μ t b) 1 14 = frt t b ∧ tm_v (c_fr μ t b) 1 15 = frb t b := by
  unfold c_fr
  simp [tm_vw]
theorem pX0_mean (hd : 6 ≤ d) (hs : tS μ) (hJ : JU μ ν) (hV : JV μ ν) (hF : JF μ ν) (hmk : tm_v μ 1 13 = tm_v ν 65 30) : cI (tWf [7, 8, 10] [(1, 10), (1, 14), (1, 15), (1, 16)] (c_FA μ)) mX0_mean d [(2, 1), (0, w), (0, v)] μ (c_o (r_mean ν w v)) := by
  have hf : dyA (c_FA μ) ∧ tm_k μ (c_FA μ) = 20 := ⟨hJ.FA.1.2, hJ.FA.1.1.2⟩
  unfold r_mean
  refine t_of (uX0_mean_0 (ν := ν) (by omega) hf (tFr.rf hs) ⟨hV, fun c m e => ?_, fun cw => ⟨fun cv => ?_, fun c m e => ?_⟩⟩)
  · rw [if_pos (fun q => c q.1), e]; exact ⟨rfl, by simp [tm_vw], by simp [tm_vw]; exact hF.1, by simp [tm_vw]; exact hF.2⟩
  · rw [if_neg (fun q => q ⟨cw, cv⟩)]
    refine tC.L (pX0_times (by omega) hs hJ hV hmk ⟨hV.1, cw⟩ ⟨hV.1, cv⟩) (fun r m1 f1 hr => ?_)
    have hin := y_sum_in hJ.1 w v
    have hal := y_all_in hJ.1
    have h1 := hr.1
    refine ⟨fun c => ⟨hJ, ?_⟩, fun c m e => ?_⟩
    · have hne := y_sum_all (μ := ν) (w := w) (v := v) (by omega)
      refine tC.I (pX0_tell (by omega) f1.S ⟨by omega, by omega⟩ ⟨by omega, by omega⟩) (fun r2 m2 f2 hr2 => ⟨by omega, ?_⟩)
      rw [if_neg (by omega), hr2.1, hr2.2, h1]
      exact ⟨rfl, (c_fr_v _ _).1, (c_fr_v _ _).2.1, (c_fr_v _ _).2.2⟩
    · rw [if_pos (by omega), e]
      refine ⟨rfl, by simp [tm_vw], ?_, ?_⟩
      · rw [tm_vw, if_neg (by omega), f1.v (tWf_no hf (by decide) (tWs_noF rfl))]; exact hF.1
      · rw [tm_vw, if_neg (by omega), f1.v (tWf_no hf (by decide) (tWs_noF rfl))]; exact hF.2
  · rw [if_pos (fun q => c q.2), e]; exact ⟨rfl, by simp [tm_vw], by simp [tm_vw]; exact hF.1, by simp [tm_vw]; exact hF.2⟩
theorem i_and31 (x : Int) : i_and x 2147483647 = x % 2147483648 := by
  have e : (Int32.ofInt x &&& Int32.ofInt 2147483647).toInt = x % 2147483648 := by
    have h1 : (Int32.ofInt x &&& Int32.ofInt 2147483647).toBitVec = (BitVec.ofInt 32 x) &&& (2147483647#32) := rfl
    have h2 : ((BitVec.ofInt 32 x) &&& (2147483647#32)).toNat = (x % 4294967296).toNat % 2147483648 := by
      rw [BitVec.toNat_and, show (2147483647#32).toNat = 2 ^ 31 - 1 from rfl, Nat.and_two_pow_sub_one_eq_mod, BitVec.toNat_ofInt]
      rfl
    show (Int32.ofInt x &&& Int32.ofInt 2147483647).toBitVec.toInt = _
    rw [h1, BitVec.toInt_eq_toNat_cond, h2]
    split <;> omega
  exact e
theorem lcg_c (s : Int) : i_and (w32 (w32 (s * 1103515245) + 12345)) 2147483647 = lcg s := by
  rw [i_and31]
  unfold lcg
  have w : ∀ y : Int, ∃ k : Int, w32 y = y + 4294967296 * k := by
    intro y
    refine ⟨(w32 y - y) / 4294967296, ?_⟩
    unfold w32
    have := Int32.toInt_ofInt (n := y)
    rw [this, Int.bmod_def, show ((Int32.size : Nat) : Int) = 4294967296 from rfl]
    split <;> omega
  obtain ⟨k1, e1⟩ := w (s * 1103515245)
  obtain ⟨k2, e2⟩ := w (w32 (s * 1103515245) + 12345)
  omega
theorem pX0_wander {s : Int} (hd : 2 ≤ d) (hs : tS μ) (hJ : JU μ ν) (h32 : s ≤ 2147483647) : cI (tWs [7, 8] [(1, 10)]) mX0_wander d [(2, 1), (0, s), (0, a), (0, b)] μ (fun r m => (r, tm_v m 1 10) = r_wander ν s a b) := by
  have hW := hJ.1
  have h20 := hW.1
  have nP : tm_n μ (tm_v μ (tm_v μ 1 8) 0) = 8 := hJ.PA.2
  have ls : ∀ s, 0 ≤ lcg s ∧ lcg s < 2147483648 := fun s => by unfold lcg; omega
  have lc : ∀ s, 0 ≤ lcs s ∧ lcs s ≤ 4 := fun s => by unfold lcs; omega
  have e2 : ∀ s, 0 ≤ s → s < 2147483648 → (w32 (s.tdiv 65536)).tmod 5 = lcs s := by
    intro s s0 s1
    rw [Int.tdiv_eq_ediv_of_nonneg s0, w32_id (by omega) (by omega), Int.tmod_eq_emod_of_nonneg (by omega)]
    rfl
  have inj : ∀ {q q' : Int}, y_p ν q → y_p ν q' → (c_P μ q = c_P μ q' ↔ q = q') := fun h h' => ⟨hJ.inj h h', fun e => by rw [e]⟩
  have wj : ∀ {m : tm_M} {c j y : Int}, tFr (tWs [7, 8] [(1, 10)]) μ m → (c = 7 ∨ c = 8) → tFr (tWs [7, 8] [(1, 10)]) μ (tm_w m c j y) := by
    intro m c j y h hc
    rcases hc with rfl | rfl
    · exact h.w (tWs_in _ rfl) (tS_w h.S sf_7 _ _)
    · exact h.w (tWs_in _ rfl) (tS_w h.S sf_8 _ _)
  have loop : ∀ (n : Nat) (t s p q : Int) (m : tm_M), 0 ≤ t → t + n = 1000 → 0 ≤ s → s < 2147483648 → y_p ν p → y_p ν q → p ≠ q → tFr (tWs [7, 8] [(1, 10)]) μ m → tm_v m 7 1 = c_P μ p → tm_v m 8 1 = c_P μ q → hI (tWs [7, 8] [(1, 10)]) μ mX0_wander d (fun r m => (r, tm_v m 1 10) = (if y_wd ν n (t + 1) s p q < 0 then (-1, 8) else (y_wd ν n (t + 1) s p q, 0))) 70 [(0, 2, 1), (4, 0, s), (5, 0, t)] [] m := by
    intro n
    induction n with
    | zero =>
      intro t s p q m t0 tn s0 s1 hp hq hne hm g7 g8
      refine uX0_wander_70 (ν := ν) hd hm ⟨fun c => by omega, fun _ => ?_⟩
      rw [g7, g8, inj hp hq]
      refine ⟨fun _ => ⟨fun c => by omega, fun _ m2 e => ?_⟩, fun c => absurd c hne⟩
      rw [y_wd, if_pos (by decide), e]
      simp [tm_vw]
    | succ n ih =>
      intro t s p q m t0 tn s0 s1 hp hq hne hm g7 g8
      have l1 := ls s
      have l2 := ls (lcg s)
      have pP := hJ.P hp
      have pQ := hJ.P hq
      refine uX0_wander_70 (ν := ν) hd hm ⟨fun c => by omega, fun _ => ?_⟩
      rw [g7, g8, inj hp hq]
      refine ⟨fun _ => ⟨fun c => ?_, fun c => by omega⟩, fun c => absurd c hne⟩
      rintro _ rfl _ rfl x hx
      rw [lcg_c] at hx
      subst hx
      rw [e2 _ l1.1 l1.2, pP.2.1]
      refine ⟨pP.1, ⟨hJ, p, hp, rfl⟩, fun m2 em2 x hx => ?_⟩
      rw [lcg_c] at hx
      subst hx
      rw [e2 _ l2.1 l2.2, pQ.2.1]
      refine ⟨pQ.1, ⟨hJ, q, hq, rfl⟩, fun m3 em3 => ⟨hJ, ?_⟩⟩
      have F3 : tFr (tWs [7, 8] [(1, 10)]) μ m3 := by rw [em3]; refine wj ?_ (by omega); rw [em2]; exact wj hm (by omega)
      have v7 : tm_v m3 7 1 = c_P μ (y_go ν p (lcs (lcg s))) := by rw [em3, em2]; simp [tm_vw]
      have v8 : tm_v m3 8 1 = c_P μ (y_go ν q (lcs (lcg (lcg s)))) := by rw [em3]; simp [tm_vw]
      have hp2 := y_go_p (s := lcs (lcg s)) hp
      have hq2 := y_go_p (s := lcs (lcg (lcg s))) hq
      rw [v7, v8, inj hp2 hq2, inj hp2 hq, inj hq2 hp, w32_id (x := t + 1) (by omega) (by omega), y_wd]
      refine ⟨fun c => ?_, fun c m4 e4 => ?_⟩
      · rw [if_neg (show ¬ y_met ν (y_go ν p (lcs (lcg s))) (y_go ν q (lcs (lcg (lcg s)))) p q from c)]
        exact ih (t + 1) _ _ _ m3 (by omega) (by omega) l2.1 l2.2 hp2 hq2 (fun e => c (Or.inl e)) F3 v7 v8
      · rw [if_pos (show y_met ν (y_go ν p (lcs (lcg s))) (y_go ν q (lcs (lcg (lcg s)))) p q from c), if_neg (by omega), e4]
        simp [tm_vw]
  unfold r_wander
  refine t_of (uX0_wander_0 (ν := ν) (by omega) (tFr.rf hs) ⟨hJ, fun c m e => ?_, fun ca => ⟨fun cb => ⟨fun cs => ⟨hJ.T, hJ.PA.1, ⟨ca.1, by omega⟩, fun m1 e1 => ⟨⟨cb.1, by omega⟩, fun m2 e2 => ?_⟩⟩, fun cs m e => ?_⟩, fun c m e => ?_⟩⟩)
  · rw [if_pos (Or.inl c), e]; simp [tm_vw]
  · rw [if_neg (by omega), if_neg (by omega)]
    have F2 : tFr (tWs [7, 8] [(1, 10)]) μ m2 := by rw [e2]; refine wj ?_ (by omega); rw [e1]; exact wj (tFr.rf hs) (by omega)
    have v7 : tm_v m2 7 1 = c_P μ a := by rw [e2, e1]; simp [tm_vw]; rfl
    have v8 : tm_v m2 8 1 = c_P μ b := by rw [e2]; simp [tm_vw]; rfl
    by_cases hne : a = b
    · rw [if_pos hne]
      refine uX0_wander_70 (ν := ν) hd F2 ⟨fun c => by omega, fun _ => ⟨fun c => absurd (by rw [v7, v8, hne]) c, fun _ m3 e3 => ?_⟩⟩
      rw [e3]; simp [tm_vw]
    · rw [if_neg hne]
      exact loop 1000 0 s a b m2 (by omega) (by omega) cs (by omega) ⟨hW, ca⟩ ⟨hW, cb⟩ hne F2 v7 v8
  · rw [if_neg (by omega), if_pos cs, e]; simp [tm_vw]
  · rw [if_pos (Or.inr c), e]; simp [tm_vw]
end C0K
