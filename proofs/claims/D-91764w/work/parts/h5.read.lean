/-! CONTRACTS of the component: a part, the reading of a text -/
section C0PT
variable {tx : Int → Int} {d mc ms nc ns : Nat} {z n : Int} {β m μ : tm_M} {s : TN} {t : TK}
def x_rs (tx : Int → Int) (n : Int) (s : TN) (t : TK) : EX (TN × TK) :=
  if isW t 635383 then (if n_t s ≠ 0 then .error (5, kfr t) else match p_cnt tx n (tok tx n (ken t)) 1 4 with
    | .error e => .error e
    | .ok r => .ok (n_own s r.1 (n_h s) (n_c s) 1 (n_u s), r.2))
  else if isW t 8554067 then (if n_u s ≠ 0 then .error (5, kfr t) else match p_cnt tx n (tok tx n (ken t)) 0 3 with
    | .error e => .error e
    | .ok r => .ok (n_own s (n_s s) r.1 (n_c s) (n_t s) 1, r.2))
  else if isW t 3751539 then (if n_c s ≠ 0 then .error (5, kfr t) else .ok (n_own s (n_s s) (n_h s) 1 (n_t s) (n_u s), tok tx n (ken t)))
  else .error (wrg t)
noncomputable def x_pt (tx : Int → Int) (n : Int) (s : TN) (t : TK) : EX (TN × TK) := if isW t 17171557 then x_pl tx n s (tok tx n (ken t)) else if isW t 394693 then (if n_l s = 12 then .error (6, kfr t) else x_ln tx n s (tok tx n (ken t))) else x_rs tx n s t
theorem rs_x : p_rs tx n s t = xe tx n (x_rs tx n s t) := by
  unfold p_rs x_rs
  by_cases c1 : isW t 635383
  · rw [if_pos c1, if_pos c1]
    by_cases c2 : n_t s ≠ 0
    · rw [if_pos c2, if_pos c2]; rfl
    · rw [if_neg c2, if_neg c2]
      cases p_cnt tx n (tok tx n (ken t)) 1 4 <;> rfl
  · rw [if_neg c1, if_neg c1]
    by_cases c3 : isW t 8554067
    · rw [if_pos c3, if_pos c3]
      by_cases c2 : n_u s ≠ 0
      · rw [if_pos c2, if_pos c2]; rfl
      · rw [if_neg c2, if_neg c2]
        cases p_cnt tx n (tok tx n (ken t)) 0 3 <;> rfl
    · rw [if_neg c3, if_neg c3]
      by_cases c4 : isW t 3751539
      · rw [if_pos c4, if_pos c4]
        by_cases c2 : n_c s ≠ 0
        · rw [if_pos c2, if_pos c2]; rfl
        · rw [if_neg c2, if_neg c2]; rfl
      · rw [if_neg c4, if_neg c4]; rfl
theorem pt_x (hp : 0 ≤ n_p s) : p_pt tx n s t = xe tx n (x_pt tx n s t) := by
  unfold p_pt x_pt
  by_cases c1 : isW t 17171557
  · rw [if_pos c1, if_pos c1, pl_x]
  · rw [if_neg c1, if_neg c1]
    by_cases c2 : isW t 394693
    · rw [if_pos c2, if_pos c2]
      unfold p_ln
      by_cases c3 : n_l s = 12
      · rw [if_pos c3, if_pos c3]; rfl
      · rw [if_neg c3, if_neg c3, ln1_x hp]
    · rw [if_neg c2, if_neg c2, rs_x]
/-- what is told is told once -/
def tuB (s : TN) : Prop := (n_c s = 0 ∨ n_c s = 1) ∧ (n_t s = 0 ∨ n_t s = 1) ∧ (n_u s = 0 ∨ n_u s = 1)
theorem x_pt_c {s' : TN} {t' : TK} (h : x_pt tx n s t = .ok (s', t')) (hs : tuB s) : tuB s' ∧ n_p s' = n_p s + (if kyT t = 0 then 1 else 0) ∧ n_l s' = n_l s + (if kyT t = 1 then 1 else 0) ∧ (kyT t = 1 → n_l s ≠ 12) := by
  unfold x_pt at h
  by_cases c1 : isW t 17171557
  · have k := ky_0.mpr c1
    rw [if_pos c1] at h
    rw [if_pos k, if_neg (by omega)]
    unfold x_pl at h
    split at h
    · cases h
    · split at h
      · cases h
      · split at h
        · cases h
        · unfold x_ft at h
          split at h
          · cases h
          · cases h
            exact ⟨hs, rfl, by show n_l s = _; omega, by omega⟩
  · have k : kyT t ≠ 0 := fun q => c1 (ky_0.mp q)
    rw [if_neg c1] at h
    rw [if_neg k]
    by_cases c2 : isW t 394693
    · have k2 := ky_1.mpr c2
      rw [if_pos c2] at h
      rw [if_pos k2]
      split at h
      · cases h
      · rename_i c3
        unfold x_ln at h
        split at h
        · cases h
        · split at h
          · cases h
          · split at h
            · cases h
            · cases h
              exact ⟨hs, by show n_p s = _; omega, rfl, fun _ => c3⟩
    · have k2 : kyT t ≠ 1 := fun q => c2 (ky_1.mp q)
      rw [if_neg c2] at h
      rw [if_neg k2]
      unfold x_rs at h
      split at h
      · split at h
        · cases h
        · split at h
          · cases h
          · cases h
            exact ⟨⟨hs.1, Or.inr rfl, hs.2.2⟩, by show n_p s = _; omega, by show n_l s = _; omega, by omega⟩
      · split at h
        · split at h
          · cases h
          · split at h
            · cases h
            · cases h
              exact ⟨⟨hs.1, hs.2.1, Or.inr rfl⟩, by show n_p s = _; omega, by show n_l s = _; omega, by omega⟩
        · split at h
          · split at h
            · cases h
            · cases h
              exact ⟨⟨Or.inr rfl, hs.2.1, hs.2.2⟩, by show n_p s = _; omega, by show n_l s = _; omega, by omega⟩
          · cases h
theorem tb_r {c t u k : Int} (hc : c = 0 ∨ c = 1) (ht : t = 0 ∨ t = 1) (hu : u = 0 ∨ u = 1) (hk : k = 2 ∨ k = 3 ∨ k = 4) : i_and (i_shr (4 * c + 8 * t + 16 * u) k) 1 = (if k = 2 then c else if k = 3 then t else u) ∧
    ((if k = 2 then c else if k = 3 then t else u) = 0 → i_or (4 * c + 8 * t + 16 * u) (i_shl 1 k) = 4 * (if k = 2 then 1 else c) + 8 * (if k = 3 then 1 else t) + 16 * (if k = 4 then 1 else u)) := by
  rcases hk with rfl | rfl | rfl <;> rcases hc with rfl | rfl <;> rcases ht with rfl | rfl <;> rcases hu with rfl | rfl <;> exact ⟨by decide, by decide⟩
theorem RS.T (hb : bR z β tx) (h : RS z β m s t) {j v a g c : Int} (hj : j = 4 ∨ j = 5) (ha : (if j = 4 then v else n_s s) = a) (hg : (if j = 5 then v else n_h s) = g) : RS z β (tm_w m (rT m) j v) (n_own s a g (n_c s) (n_t s) (n_u s)) t := by
  obtain ⟨⟨t1, t2, t3, t4⟩, u, k7, -⟩ := id h.2.1
  have := hb.1
  have := t1.1.1
  refine ⟨h.1.w hb.1 t1.1.1 _ _, JR_T h.2.1 rfl rfl rfl (fun x i hx hc => ?_) ?_ ?_ ?_ ?_ ?_, hasC_w h.2.2 (by omega)⟩
  · rw [tm_vw, if_neg (fun q => by rcases hc with c | c | c <;> omega)]
  · rw [tm_vw, if_neg (fun q => by omega)]
  · rw [tm_vw, ← ha]
    rcases hj with rfl | rfl
    · rw [if_pos ⟨rfl, rfl⟩, if_pos rfl]
    · rw [if_neg (fun q => absurd q.2 (by decide)), if_neg (by decide)]; exact u.2.2.1
  · rw [tm_vw, ← hg]
    rcases hj with rfl | rfl
    · rw [if_neg (fun q => absurd q.2 (by decide)), if_neg (by decide)]; exact u.2.2.2.1
    · rw [if_pos ⟨rfl, rfl⟩, if_pos rfl]
  · rw [tm_vw, if_neg (fun q => by omega)]; exact u.2.2.2.2
  · rw [tm_vw, if_neg (fun q => by omega)]; exact k7
theorem hasC_7 {v : Int} (h : hasC m t) : hasC (tm_w m 4 7 v) t := by
  unfold hasC at h ⊢
  rw [tm_vw, if_neg (by decide), tm_vw, if_neg (by decide), tm_vw, if_neg (by decide), tm_vw, if_neg (by decide)]
  exact h
theorem RS.b (hb : bR z β tx) (h : RS z β m s t) {v p q : Int} (hv : v = 4 * n_c s + 8 * p + 16 * q) : RS z β (tm_w m 4 7 v) (n_own s (n_s s) (n_h s) (n_c s) p q) t := by
  obtain ⟨⟨t1, t2, t3, t4⟩, u, k7, -⟩ := id h.2.1
  have := hb.1
  have := t1.1.1
  have N : ∀ j, tm_v (tm_w m 4 7 v) (rT m) j = tm_v m (rT m) j := fun j => by rw [tm_vw, if_neg (fun q => by omega)]
  refine ⟨h.1.w7 v, JR_T h.2.1 rfl rfl rfl (fun x i hx hc => ?_) ?_ ?_ ?_ ?_ ?_, hasC_7 h.2.2⟩
  · rw [tm_vw, if_neg (fun q => by omega)]
  · rw [tm_vw, if_neg (by decide)]
  · rw [N]; exact u.2.2.1
  · rw [N]; exact u.2.2.2.1
  · rw [N]; exact u.2.2.2.2
  · rw [tm_vw, if_pos ⟨rfl, rfl⟩]; exact hv
theorem rT_F {m' : tm_M} (f : tFr wRd m m') : tm_v m' 4 8 = tm_v m 4 8 := f.v (tWs_noF rfl)
theorem pX2_part (hd : 11 ≤ d) (hb : bR z β tx) (h : RS z β μ s t) (hk : okK β t) (hw : wfT s) (hu : tuB s) (hm0 : kyT t = 0 → 2 ≤ mc ∧ 11 ≤ ms) (hm1 : kyT t = 1 → n_l s ≠ 12 → 1 ≤ mc ∧ 3 ≤ ms) : tC mX2_part d mc ms [(2, 4)] μ (q_ex z β (x_pt tx (tm_v β 4 2) s t)) := by
  have hh : ∀ (pc : Nat), ∀ x ∈ mX2_part.2.2.2.2, ¬ (x.1 ≤ pc ∧ pc < x.2.1) := fun pc x hx => by cases hx
  have kin := ky_in t
  have z104 := hb.1
  have kN := hk.n hb
  have thru : ∀ {r : EX (TN × TK)} {o : tOc} {m3 : tm_M} {pc nc ns : Nat} {L : tLs}, x_pt tx (tm_v β 4 2) s t = r → q_ex z β r o m3 → nc ≤ mc → ns ≤ ms → rkV o (tS m3 ∧ (tH mX2_part d mc ms (tq (q_ex z β (x_pt tx (tm_v β 4 2) s t)) mc ms) 178 [] [] m3 nc ns)) (fun a => tT mX2_part d mc ms (tq (q_ex z β (x_pt tx (tm_v β 4 2) s t)) mc ms) pc L a m3 nc ns) := by
    intro r o m3 pc nc ns L hr q h1 h2
    rw [hr]
    cases r with
    | error e =>
      have q' : q_er z β e o m3 := q
      obtain ⟨rfl, -⟩ := id q'
      exact Or.inr ⟨3, rfl, t_leave (hh pc) h1 h2 q⟩
    | ok r =>
      obtain ⟨rfl, R, -⟩ := id q
      exact Or.inl ⟨rfl, R.S, rX2_part_178 R.S ⟨⟨h1, h2⟩, q⟩⟩
  have bad : (kyT t < 0 ∨ 4 < kyT t) → x_pt tx (tm_v β 4 2) s t = .error (wrg t) := by
    intro c
    unfold x_pt x_rs
    rw [if_neg (fun q => by have := ky_0.mpr q; omega), if_neg (fun q => by have := ky_1.mpr q; omega), if_neg (fun q => by have := ky_3.mpr q; omega), if_neg (fun q => by have := ky_4.mpr q; omega), if_neg (fun q => by have := ky_2.mpr q; omega)]
  have x0 : kyT t = 0 → x_pt tx (tm_v β 4 2) s t = x_pl tx (tm_v β 4 2) s (nxt tx β t) := fun c => by unfold x_pt; rw [if_pos (ky_0.mp c)]
  have x1 : kyT t = 1 → x_pt tx (tm_v β 4 2) s t = if n_l s = 12 then .error (6, kfr t) else x_ln tx (tm_v β 4 2) s (nxt tx β t) := fun c => by unfold x_pt; rw [if_neg (fun q => by have := ky_0.mpr q; omega), if_pos (ky_1.mp c)]
  have x2 : kyT t = 2 → x_pt tx (tm_v β 4 2) s t = if n_c s ≠ 0 then .error (5, kfr t) else .ok (n_own s (n_s s) (n_h s) 1 (n_t s) (n_u s), nxt tx β t) := fun c => by
    unfold x_pt x_rs
    rw [if_neg (fun q => by have := ky_0.mpr q; omega), if_neg (fun q => by have := ky_1.mpr q; omega), if_neg (fun q => by have := ky_3.mpr q; omega), if_neg (fun q => by have := ky_4.mpr q; omega), if_pos (ky_2.mp c)]
  have x3 : kyT t = 3 → x_pt tx (tm_v β 4 2) s t = if n_t s ≠ 0 then .error (5, kfr t) else match p_cnt tx (tm_v β 4 2) (nxt tx β t) 1 4 with
      | .error e => .error e
      | .ok r => .ok (n_own s r.1 (n_h s) (n_c s) 1 (n_u s), r.2) := fun c => by
    unfold x_pt x_rs
    rw [if_neg (fun q => by have := ky_0.mpr q; omega), if_neg (fun q => by have := ky_1.mpr q; omega), if_pos (ky_3.mp c)]
  have x4 : kyT t = 4 → x_pt tx (tm_v β 4 2) s t = if n_u s ≠ 0 then .error (5, kfr t) else match p_cnt tx (tm_v β 4 2) (nxt tx β t) 0 3 with
      | .error e => .error e
      | .ok r => .ok (n_own s (n_s s) r.1 (n_c s) (n_t s) 1, r.2) := fun c => by
    unfold x_pt x_rs
    rw [if_neg (fun q => by have := ky_0.mpr q; omega), if_neg (fun q => by have := ky_1.mpr q; omega), if_neg (fun q => by have := ky_3.mpr q; omega), if_pos (ky_4.mp c)]
  obtain ⟨⟨t1, t2, t3, t4⟩, u, k7, -⟩ := id h.2.1
  have ge : ∀ {x : Int} {k : Nat} {m : tm_M}, nw z m x k → 1 ≤ x := fun h => by have := h.1.1; omega
  -- from 46
  have at46 : (2 ≤ kyT t → (if kyT t = 2 then n_c s else if kyT t = 3 then n_t s else n_u s) = 0) → 0 ≤ kyT t → kyT t ≤ 4 → tH mX2_part d mc ms (tq (q_ex z β (x_pt tx (tm_v β 4 2) s t)) mc ms) 46 [(0, 2, 4), (1, 0, kyT t)] [] μ 0 0 := by
    intro hbit c0 c4
    refine rX2_part_46 h.S ⟨fun c => ?_, fun c => ?_⟩
    · refine rX2_part_63 h.S ⟨fun c1 => ?_, fun c1 => ⟨⟨ge t1, t1.2⟩, fun c2 => ?_, fun c2 => ?_⟩⟩
      · have k0 : kyT t = 0 := by omega
        refine rX2_part_87 h.S (r_next hb h hk (by omega) (Nat.zero_le _) (Nat.zero_le _) (fun m R f => ⟨R.S, fun _ => ?_, fun q => by omega, fun q => by omega, fun q => by omega, fun q => by omega⟩))
        obtain ⟨g1, g2⟩ := hm0 k0
        exact rcl_of (d' := d - 1) (pX2_aPlace (by omega) hb R kN hw) (by omega) (by omega) (by omega) (fun o m3 q => thru (x0 k0) q (by omega) (by omega))
      · have hl : n_l s ≠ 12 := by rw [← u.2.1]; exact c2
        refine rX2_part_87 h.S (r_next hb h hk (by omega) (Nat.zero_le _) (Nat.zero_le _) (fun m R f => ⟨R.S, fun q => by omega, fun _ => ?_, fun q => by omega, fun q => by omega, fun q => by omega⟩))
        obtain ⟨g1, g2⟩ := hm1 c1 hl
        have := x1 c1
        rw [if_neg hl] at this
        exact rcl_of (d' := d - 1) (pX2_aLane (by omega) hb R kN hw hl) (by omega) (by omega) (by omega) (fun o m3 q => thru this q (by omega) (by omega))
      · have hl : n_l s = 12 := by rw [← u.2.1]; exact c2
        have := x1 c1
        rw [if_pos hl] at this
        rw [this]
        exact r_failk h hk (by have := ky_so (t := t) (by omega); omega) (by omega) (Nat.zero_le _) (Nat.zero_le _) (hh _) (fun o m' qe => qe)
    · have hbt := tb_r (k := kyT t) hu.1 hu.2.1 hu.2.2 (by omega)
      rw [k7, hbt.2 (hbit c)]
      rintro m1 rfl
      have G1 := h.1.w7 (4 * (if kyT t = 2 then 1 else n_c s) + 8 * (if kyT t = 3 then 1 else n_t s) + 16 * (if kyT t = 4 then 1 else n_u s))
      refine ⟨G1.1, rX2_part_63 G1.1 ⟨fun c1 => ?_, fun c1 => by omega⟩⟩
      by_cases e2 : kyT t = 2
      · have hb0 := hbit c
        rw [if_pos e2] at hb0
        have hx := x2 e2
        rw [if_neg (by omega)] at hx
        rw [hx]
        have C1 := hasC_7 (v := 4 * (if kyT t = 2 then 1 else n_c s) + 8 * (if kyT t = 3 then 1 else n_t s) + 16 * (if kyT t = 4 then 1 else n_u s)) h.2.2
        rw [if_pos e2, if_neg (show ¬ kyT t = 3 by omega), if_neg (show ¬ kyT t = 4 by omega)] at C1 G1 ⊢
        have b1 : 0 ≤ ken t ∧ ken t ≤ tm_v β 4 2 := by have := hk.2.2; omega
        refine rX2_part_87 G1.1 (rcl_of (d' := d - 1) (pX2_next (by omega) G1.1 (G1.X hb) (by rw [C1.2.2.1, G1.n hb]; exact b1)) (by omega) (Nat.zero_le _) (Nat.zero_le _) (fun o m2 q => ?_))
        obtain ⟨rfl, f2, C2⟩ := q
        rw [C1.2.2.1, G1.n hb, G1.tt hb, hb.2.2.2 _ b1.1 b1.2] at C2
        have G2 := G1.fr f2 wRd_r
        have e48 : tm_v m2 4 8 = rT μ := by rw [rT_F f2, tm_vw, if_neg (by decide)]; rfl
        refine Or.inl ⟨rfl, G2.1, fun q => by omega, fun q => by omega, fun _ => ?_, fun q => by omega, fun q => by omega⟩
        rw [e48]
        have n4 := t1.1.1
        refine ⟨⟨ge t1, by rw [f2.k]; exact t1.2⟩, ?_⟩
        rintro m8 rfl
        have G3 := G2.w z104 t1.1.1 6 1
        refine ⟨G3.1, rX2_part_178 G3.1 ⟨⟨Nat.zero_le _, Nat.zero_le _⟩, rfl, ⟨G3, ?_, hasC_w C2 (by omega)⟩, kN⟩⟩
        have w : ∀ x j, 104 ≤ x → tm_v m2 x j = tm_v μ x j := by
          intro x j hx
          rw [f2.v (wRd_RC.1 x j hx), tm_vw, if_neg (by omega)]
        refine JR_T h.2.1 f2.z f2.k f2.n (fun x i hx hc => ?_) ?_ ?_ ?_ ?_ ?_
        · rw [tm_vw, if_neg (fun q => by rcases hc with c | c | c <;> omega), w x i (by omega)]
        · rw [tm_vw, if_neg (fun q => by omega)]; exact e48
        · rw [tm_vw, if_neg (fun q => absurd q.2 (by decide)), w _ _ (by omega)]; exact u.2.2.1
        · rw [tm_vw, if_neg (fun q => absurd q.2 (by decide)), w _ _ (by omega)]; exact u.2.2.2.1
        · rw [tm_vw, if_pos ⟨rfl, rfl⟩]
        · rw [tm_vw, if_neg (fun q => by omega), f2.v wRd_RC.2.1, tm_vw, if_pos ⟨rfl, rfl⟩]
      · rw [if_neg e2]
        have R1 := h.b hb (v := 4 * n_c s + 8 * (if kyT t = 3 then 1 else n_t s) + 16 * (if kyT t = 4 then 1 else n_u s)) rfl
        by_cases e3 : kyT t = 3
        · have hb0 := hbit c
          rw [if_neg e2, if_pos e3] at hb0
          have hx := x3 e3
          rw [if_neg (by omega)] at hx
          rw [hx]
          rw [if_pos e3, if_neg (show ¬ kyT t = 4 by omega)] at R1 ⊢
          refine rX2_part_87 R1.S (r_next hb R1 hk (by omega) (Nat.zero_le _) (Nat.zero_le _) (fun m R f => ⟨R.S, fun q => by omega, fun q => by omega, fun q => by omega, fun _ => ?_, fun q => by omega⟩))
          refine r_passed hb R kN (by omega) (Nat.zero_le _) (Nat.zero_le _) (hh _) (fun v t' m' ec R' f' => ?_) (fun e ee o m' qe => by rw [ee]; exact qe)
          rw [ec]
          have eT : tm_v m 4 8 = rT m' := (rT_F f').symm
          have tt := R'.2.1.1.1
          rw [eT]
          refine ⟨R'.S, ⟨ge tt, tt.2⟩, ?_⟩
          rintro m12 rfl
          have R3 := R'.T (j := 4) (v := v) (a := v) (g := n_h s) (c := 0) hb (Or.inl rfl) rfl rfl
          have k' : okK β t' := by
            rw [(p_cnt_ok ec).2]
            exact kN.n hb
          exact ⟨R3.S, rX2_part_178 R3.S ⟨⟨Nat.zero_le _, Nat.zero_le _⟩, rfl, R3, k'⟩⟩
        · have e4 : kyT t = 4 := by omega
          have hb0 := hbit c
          rw [if_neg e2, if_neg e3] at hb0
          have hx := x4 e4
          rw [if_neg (by omega)] at hx
          rw [hx]
          rw [if_neg e3, if_pos e4] at R1 ⊢
          refine rX2_part_87 R1.S (r_next hb R1 hk (by omega) (Nat.zero_le _) (Nat.zero_le _) (fun m R f => ⟨R.S, fun q => by omega, fun q => by omega, fun q => by omega, fun q => by omega, fun _ => ?_⟩))
          refine r_passed hb R kN (by omega) (Nat.zero_le _) (Nat.zero_le _) (hh _) (fun v t' m' ec R' f' => ?_) (fun e ee o m' qe => by rw [ee]; exact qe)
          rw [ec]
          have eT : tm_v m 4 8 = rT m' := (rT_F f').symm
          have tt := R'.2.1.1.1
          rw [eT]
          refine ⟨R'.S, ⟨ge tt, tt.2⟩, ?_⟩
          rintro m12 rfl
          have R3 := R'.T (j := 5) (v := v) (a := n_s s) (g := v) (c := 0) hb (Or.inr rfl) rfl rfl
          have k' : okK β t' := by
            rw [(p_cnt_ok ec).2]
            exact kN.n hb
          exact ⟨R3.S, rX2_part_178 R3.S ⟨⟨Nat.zero_le _, Nat.zero_le _⟩, rfl, R3, k'⟩⟩
  refine tC_of rfl (Nat.le_of_ble_eq_true rfl) (rX2_part_0 h.S ?_)
  refine r_key hb h hk (by omega) (Nat.zero_le _) (Nat.zero_le _) ⟨h.S, fun c => ?_, fun c => ⟨fun c1 => ?_, fun c1 => ?_⟩⟩
  · exact r_need0 h hk (by omega) (Nat.zero_le _) (Nat.zero_le _) (hh _) (fun o m' q => by rw [bad (Or.inl c)]; exact q)
  · exact r_need0 h hk (by omega) (Nat.zero_le _) (Nat.zero_le _) (hh _) (fun o m' q => by rw [bad (Or.inr c1)]; exact q)
  · refine r_need1 h.S (by omega) (Nat.zero_le _) (Nat.zero_le _) ⟨h.S, fun c2 => at46 (fun q => by omega) c c1, fun c2 => ?_⟩
    have hbt := tb_r (k := kyT t) hu.1 hu.2.1 hu.2.2 (by omega)
    rw [k7, hbt.1]
    refine ⟨fun c3 => at46 (fun _ => ?_) c c1, fun c3 => ?_⟩
    · have h1 := hu.1
      have h2 := hu.2.1
      have h3 := hu.2.2
      split at c3
      · rename_i q; rw [if_pos q]; omega
      · rename_i q
        rw [if_neg q]
        split at c3
        · rename_i q2; rw [if_pos q2]; omega
        · rename_i q2; rw [if_neg q2]; omega
    · have hx : x_pt tx (tm_v β 4 2) s t = .error (5, kfr t) := by
        by_cases q : kyT t = 2
        · rw [if_pos q] at c3; rw [x2 q, if_pos (by omega)]
        · rw [if_neg q] at c3
          by_cases q2 : kyT t = 3
          · rw [if_pos q2] at c3; rw [x3 q2, if_pos (by omega)]
          · rw [if_neg q2] at c3; rw [x4 (by omega), if_pos (by omega)]
      rw [hx]
      exact r_failk h hk (by have := ky_so (t := t) (by omega); omega) (by omega) (Nat.zero_le _) (Nat.zero_le _) (hh _) (fun o m' qe => qe)
end C0PT
