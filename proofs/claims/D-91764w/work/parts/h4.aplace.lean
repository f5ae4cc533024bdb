/-! CONTRACT of the component: a place is read -/
section KY
variable {t : TK}
theorem ky_0 : kyT t = 0 ↔ isW t 17171557 := by
  unfold kyT kyW isW
  constructor
  · intro h
    split at h
    · rename_i c
      refine ⟨c, ?_⟩
      repeat' split at h
      all_goals omega
    · omega
  · rintro ⟨c, e⟩
    rw [if_pos c, e]
    decide
theorem ky_1 : kyT t = 1 ↔ isW t 394693 := by
  unfold kyT kyW isW
  constructor
  · intro h
    split at h
    · rename_i c
      refine ⟨c, ?_⟩
      repeat' split at h
      all_goals omega
    · omega
  · rintro ⟨c, e⟩
    rw [if_pos c, e]
    decide
theorem ky_2 : kyT t = 2 ↔ isW t 3751539 := by
  unfold kyT kyW isW
  constructor
  · intro h
    split at h
    · rename_i c
      refine ⟨c, ?_⟩
      repeat' split at h
      all_goals omega
    · omega
  · rintro ⟨c, e⟩
    rw [if_pos c, e]
    decide
theorem ky_3 : kyT t = 3 ↔ isW t 635383 := by
  unfold kyT kyW isW
  constructor
  · intro h
    split at h
    · rename_i c
      refine ⟨c, ?_⟩
      repeat' split at h
      all_goals omega
    · omega
  · rintro ⟨c, e⟩
    rw [if_pos c, e]
    decide
theorem ky_4 : kyT t = 4 ↔ isW t 8554067 := by
  unfold kyT kyW isW
  constructor
  · intro h
    split at h
    · rename_i c
      refine ⟨c, ?_⟩
      repeat' split at h
      all_goals omega
    · omega
  · rintro ⟨c, e⟩
    rw [if_pos c, e]
    decide
theorem ky_5 : kyT t = 5 ↔ isW t 627891 := by
  unfold kyT kyW isW
  constructor
  · intro h
    split at h
    · rename_i c
      refine ⟨c, ?_⟩
      repeat' split at h
      all_goals omega
    · omega
  · rintro ⟨c, e⟩
    rw [if_pos c, e]
    decide
theorem ky_6 : kyT t = 6 ↔ isW t 6605428 := by
  unfold kyT kyW isW
  constructor
  · intro h
    split at h
    · rename_i c
      refine ⟨c, ?_⟩
      repeat' split at h
      all_goals omega
    · omega
  · rintro ⟨c, e⟩
    rw [if_pos c, e]
    decide
theorem ky_7 : kyT t = 7 ↔ isW t 642891204 := by
  unfold kyT kyW isW
  constructor
  · intro h
    split at h
    · rename_i c
      refine ⟨c, ?_⟩
      repeat' split at h
      all_goals omega
    · omega
  · rintro ⟨c, e⟩
    rw [if_pos c, e]
    decide
theorem ky_so (h : 0 ≤ kyT t) : kso t = 1 := by
  unfold kyT at h
  split at h
  · assumption
  · omega
theorem ky_in (t : TK) : -1 ≤ kyT t ∧ kyT t ≤ 8 := by
  unfold kyT kyW
  repeat' split
  all_goals omega
theorem ft_5 (h : kyT t = 5) : ftT t = 0 := by unfold ftT; rw [if_pos (ky_5.mp h)]
theorem ft_6 (h : kyT t = 6) : ftT t = 1 := by
  unfold ftT
  rw [if_neg (fun q => by have := ky_5.mpr q; omega), if_pos (ky_6.mp h)]
theorem ft_7 (h : kyT t = 7) : ftT t = 2 := by
  unfold ftT
  rw [if_neg (fun q => by have := ky_5.mpr q; omega), if_neg (fun q => by have := ky_6.mpr q; omega), if_pos (ky_7.mp h)]
theorem ft_n (h : kyT t < 5 ∨ 7 < kyT t) : ftT t = -1 := by
  unfold ftT
  rw [if_neg (fun q => by have := ky_5.mpr q; omega), if_neg (fun q => by have := ky_6.mpr q; omega), if_neg (fun q => by have := ky_7.mpr q; omega)]
/-- bits told -/
def bt (h : Int → Int) : Int := 32 * h 0 + 64 * h 1 + 128 * h 2
theorem bt_r {h : Int → Int} {k : Int} (h0 : h 0 = 0 ∨ h 0 = 1) (h1 : h 1 = 0 ∨ h 1 = 1) (h2 : h 2 = 0 ∨ h 2 = 1) (hk : k = 0 ∨ k = 1 ∨ k = 2) : i_and (i_shr (bt h) (5 + k)) 1 = h k ∧ (h k = 0 → i_or (bt h) (i_shl 1 (5 + k)) = bt (fup h k 1)) := by
  unfold bt fup
  rcases hk with rfl | rfl | rfl <;> rcases h0 with e0 | e0 <;> rcases h1 with e1 | e1 <;> rcases h2 with e2 | e2 <;> simp only [e0, e1, e2] <;> exact ⟨by decide, by decide⟩
end KY
section C0AP
variable {tx : Int → Int} {d mc ms nc ns : Nat} {z : Int} {β m μ : tm_M} {s : TN} {t : TK}
theorem r_passed {M : tM} {L : tLs} {pc : Nat} {Q : tQ} {lo hi : Int} {A : Int → tm_M → Nat → Nat → Prop} (hb : bR z β tx) (h : RS z β m s t) (hk : okK β t) (hd : 4 ≤ d) (h1 : nc ≤ mc) (h2 : ns ≤ ms) (hh : ∀ x ∈ M.2.2.2.2, ¬ (x.1 ≤ pc ∧ pc < x.2.1))
    (hA : ∀ v t' m', p_cnt tx (tm_v β 4 2) t lo hi = .ok (v, t') → RS z β m' s t' → tFr wRd m m' → A v m' nc ns) (hq : ∀ e, p_cnt tx (tm_v β 4 2) t lo hi = .error e → ∀ o m', q_er z β e o m' → Q o m') :
    rcl mX2_passed [(2, 4), (0, lo), (0, hi)] m d mc ms nc ns (fun o μ1 nc1 ns1 => rk 0 o (fun r => A r μ1 nc1 ns1) (fun a => tT M d mc ms (tq Q mc ms) pc L a μ1 nc1 ns1)) := by
  refine rcl_of (d' := d - 1) (pX2_passed (by omega) h.S (h.1.X hb) h.2.2 hk.1 (by rw [h.1.n hb]; have := hk.2.2; omega)) (by omega) h1 h2 (fun o m' q => ?_)
  have eC : p_cnt (c_tx m) (tm_v m 4 2) t lo hi = p_cnt tx (tm_v β 4 2) t lo hi := by
    unfold p_cnt
    rw [h.1.tt hb, h.1.n hb, hb.2.2.2 _ (by have := hk.2.2; omega) hk.2.2.2.2]
  rw [eC] at q
  cases e : p_cnt tx (tm_v β 4 2) t lo hi with
  | error e' =>
    rw [e] at q
    have q : isE m e' o m' := q
    refine Or.inr ⟨3, q.1, t_leave hh h1 h2 (hq _ e _ _ ?_)⟩
    have := q.r h.1
    rw [q.1] at this
    exact this
  | ok p =>
    obtain ⟨v, t'⟩ := p
    rw [e] at q
    obtain ⟨q1, q2, q3⟩ := q
    exact Or.inl ⟨_, q1, hA v t' m' e (h.d hb q2 q3) q2⟩
theorem rP_w {p k j v : Int} (hb : bR z β tx) (h : RS z β m s t) (p0 : 0 ≤ p) (p1 : p < n_p s) : rP (tm_w m (rP m p) j v) k = rP m k := by
  obtain ⟨⟨t1, t2, t3, t4⟩, u, k7, P, L, iA, iL⟩ := h.2.1
  have pp := (P p p0 p1).1
  have V : ∀ {x : Int} {k : Nat}, nw z m x k → k ≠ 7 → ∀ i, tm_v (tm_w m (rP m p) j v) x i = tm_v m x i := by
    intro x k h h7 i
    rw [tm_vw, if_neg (fun e => h.ne pp h7 e.1)]
  have eT : rT (tm_w m (rP m p) j v) = rT m := by
    unfold rT
    have := pp.1.1
    have := hb.1
    rw [tm_vw, if_neg (fun e => by omega)]
  show tm_v (tm_w m (rP m p) j v) (tm_v (tm_w m (rP m p) j v) (rT (tm_w m (rP m p) j v)) 0) k = tm_v m (rPA m) k
  rw [eT, V t1 (by decide)]
  exact V t2.1 (by decide) k
theorem hasC_w {x j v : Int} (h : hasC m t) (hx : x ≠ 4) : hasC (tm_w m x j v) t := by
  unfold hasC at h ⊢
  have V : ∀ i, tm_v (tm_w m x j v) 4 i = tm_v m 4 i := fun i => by rw [tm_vw, if_neg (fun q => hx q.1.symm)]
  rw [V, V, V, V]
  exact h
theorem RS.ft {p q v : Int} (hb : bR z β tx) (h : RS z β m s t) (p0 : 0 ≤ p) (p1 : p < n_p s) (hq : q = 0 ∨ q = 1 ∨ q = 2) : RS z β (tm_w m (rP m p) (2 + q) v) (n_ft s (fup (n_f s) (3 * p + q) v)) t := by
  have pp := (h.2.1.P p0 p1).1
  have := hb.1
  have := pp.1.1
  exact ⟨h.1.w hb.1 pp.1.1 _ _, JR_ft hb.1 h.2.1 p0 p1 hq, hasC_w h.2.2 (by omega)⟩
/-- features, then the end -/
def x_ft (tx : Int → Int) (n : Int) (s : TN) (p : Int) (q : Nat) (g f : Int → Int) (t : TK) : EX (TN × TK) := match p_fts tx n p q g f t with
  | .error e => .error e
  | .ok r => .ok (n_ft s r.1, r.2)
theorem place_loop {p : Int} {s1 : TN} (hd : 7 ≤ d) (hb : bR z β tx) (p0 : 0 ≤ p) (p1 : p < n_p s1) : ∀ (q : Nat) (g f : Int → Int) (t : TK) (m : tm_M), RS z β m (n_ft s1 f) t → okK β t → (g 0 = 0 ∨ g 0 = 1) → (g 1 = 0 ∨ g 1 = 1) → (g 2 = 0 ∨ g 2 = 1) → (q : Int) + g 0 + g 1 + g 2 = 4 →
    tH mX2_aPlace d 2 11 (tq (q_ex z β (x_ft tx (tm_v β 4 2) s1 p q g f t)) 2 11) 99 [(0, 2, 4), (3, 2, rP m p), (4, 0, bt g), (5, 0, kyT t)] [] m 2 11 := by
  have hh : ∀ (pc : Nat), ∀ x ∈ mX2_aPlace.2.2.2.2, ¬ (x.1 ≤ pc ∧ pc < x.2.1) := fun pc x hx => by cases hx
  intro q
  induction q with
  | zero =>
    intro g f t m R k g0 g1 g2 hg
    exfalso
    omega
  | succ q ih =>
    intro g f t m R k g0 g1 g2 hg
    have kin := ky_in t
    have done : (kyT t < 5 ∨ 7 < kyT t) → q_ex z β (x_ft tx (tm_v β 4 2) s1 p (q + 1) g f t) (.inl none) m := by
      intro c
      have : x_ft tx (tm_v β 4 2) s1 p (q + 1) g f t = .ok (n_ft s1 f, t) := by
        unfold x_ft
        rw [p_fts, if_pos (by rw [ft_n c]; decide)]
      rw [this]
      exact ⟨rfl, R, k⟩
    refine rX2_aPlace_99 R.S ⟨fun c => ⟨⟨Nat.le_refl _, Nat.le_refl _⟩, done (Or.inl c)⟩, fun c => ⟨fun c1 => ⟨⟨Nat.le_refl _, Nat.le_refl _⟩, done (Or.inr c1)⟩, fun c1 => ?_⟩⟩
    obtain ⟨j, hj, ej⟩ : ∃ j : Int, (j = 0 ∨ j = 1 ∨ j = 2) ∧ kyT t = 5 + j := ⟨kyT t - 5, by omega, by omega⟩
    have eft : ftT t = j := by
      rcases hj with rfl | rfl | rfl
      · exact ft_5 ej
      · exact ft_6 ej
      · exact ft_7 ej
    have hbt := bt_r g0 g1 g2 hj
    have hgj : g j = 0 ∨ g j = 1 := by rcases hj with rfl | rfl | rfl <;> assumption
    rw [ej]
    rw [hbt.1]
    have kk := k.n hb
    have so := ky_so (t := t) (by omega)
    refine ⟨fun c2 => ?_, fun c2 => ?_⟩
    · have gj0 : g j = 0 := by omega
      rw [hbt.2 gj0]
      rintro x9 rfl
      have hx : x_ft tx (tm_v β 4 2) s1 p (q + 1) g f t = match p_cnt tx (tm_v β 4 2) (nxt tx β t) 0 (if j = 0 then 5 else 9) with
          | .error e => .error e
          | .ok (v, t') => x_ft tx (tm_v β 4 2) s1 p q (fup g j 1) (fup f (3 * p + j) v) t' := by
        unfold x_ft
        rw [p_fts, if_neg (by omega), eft, if_neg (by omega)]
        cases e : p_cnt tx (tm_v β 4 2) (tok tx (tm_v β 4 2) (ken t)) 0 (if j = 0 then 5 else 9) with
        | error e' => rfl
        | ok r => rfl
      have hg' : ∀ i, fup g j 1 i = if i = j then 1 else g i := fun i => rfl
      have b0 : ∀ i, (g i = 0 ∨ g i = 1) → (fup g j 1 i = 0 ∨ fup g j 1 i = 1) := fun i hi => by rw [hg']; split; exact Or.inr rfl; exact hi
      have bs : (q : Int) + fup g j 1 0 + fup g j 1 1 + fup g j 1 2 = 4 := by
        rw [hg', hg', hg']
        rcases hj with rfl | rfl | rfl
        · rw [if_pos rfl, if_neg (by decide), if_neg (by decide)]; omega
        · rw [if_neg (by decide), if_pos rfl, if_neg (by decide)]; omega
        · rw [if_neg (by decide), if_neg (by decide), if_pos rfl]; omega
      -- behind the number
      have on : ∀ (v : Int) (t' : TK) (m' m2 : tm_M), p_cnt tx (tm_v β 4 2) (nxt tx β t) 0 (if j = 0 then 5 else 9) = .ok (v, t') → RS z β m2 (n_ft s1 f) (nxt tx β t) → tFr wRd m m2 → RS z β m' (n_ft s1 f) t' → tFr wRd m2 m' → ∀ (pc : Nat) (L : tLs), (1 ≤ rP m p ∧ tm_k m' (rP m p) = 7) ∧ (∀ μ19, μ19 = tm_w m' (rP m p) (2 + j) v → tS μ19 ∧ (rcl mX2_key [(2, 4)] μ19 d 2 11 2 11 (fun o20 μ20 nc20 ns20 => rk 0 o20 (fun r20 => tS μ20 ∧ (tH mX2_aPlace d 2 11 (tq (q_ex z β (x_ft tx (tm_v β 4 2) s1 p (q + 1) g f t)) 2 11) 99 [(0, 2, 4), (3, 2, rP m p), (4, 0, bt (fup g j 1)), (5, 0, r20)] [] μ20 nc20 ns20)) (fun a => tT mX2_aPlace d 2 11 (tq (q_ex z β (x_ft tx (tm_v β 4 2) s1 p (q + 1) g f t)) 2 11) pc L a μ20 nc20 ns20)))) := by
        intro v t' m' m2 ec R2 f2 R' f' pc L
        have eP : rP m' p = rP m p := rP_F hb R (f2.tr f' (fun _ _ q => q)) p
        have pp := (R'.2.1.P p0 (show p < n_p (n_ft s1 f) from p1)).1
        rw [← eP]
        refine ⟨⟨by have := pp.1.1; have := hb.1; omega, pp.2⟩, ?_⟩
        rintro m19 rfl
        have R3 := R'.ft (q := j) (v := v) hb p0 (show p < n_p (n_ft s1 f) from p1) hj
        have eP3 : rP (tm_w m' (rP m' p) (2 + j) v) p = rP m' p := rP_w hb R' p0 p1
        have k' : okK β t' := by
          rw [(p_cnt_ok ec).2]
          exact kk.n hb
        refine ⟨R3.S, r_key hb R3 k' (by omega) (Nat.le_refl _) (Nat.le_refl _) ⟨R3.S, ?_⟩⟩
        have hx2 : x_ft tx (tm_v β 4 2) s1 p (q + 1) g f t = x_ft tx (tm_v β 4 2) s1 p q (fup g j 1) (fup f (3 * p + j) v) t' := by rw [hx, ec]
        rw [hx2]
        have := ih (fup g j 1) (fup f (3 * p + j) v) t' (tm_w m' (rP m' p) (2 + j) v) R3 k' (b0 0 g0) (b0 1 g1) (b0 2 g2) bs
        rw [eP3] at this
        exact this
      have err : ∀ e, p_cnt tx (tm_v β 4 2) (nxt tx β t) 0 (if j = 0 then 5 else 9) = .error e → ∀ o m', q_er z β e o m' → q_ex z β (x_ft tx (tm_v β 4 2) s1 p (q + 1) g f t) o m' := by
        intro e ee o m' qe
        rw [hx, ee]
        exact qe
      refine r_next hb R k (by omega) (Nat.le_refl _) (Nat.le_refl _) (fun m2 R2 f2 => ⟨R2.S, fun c3 => ?_, fun c3 => ?_⟩)
      · have j9 : (if j = 0 then (5 : Int) else 9) = 9 := if_neg (by omega)
        rw [j9] at on err
        refine r_passed hb R2 kk (by omega) (Nat.le_refl _) (Nat.le_refl _) (hh _) (fun v t' m' ec R' f' => ⟨R'.S, fun _ => ⟨fun c4 => ?_, fun c4 => ?_⟩, fun c4 => absurd c4 c3⟩) err
        · have := on v t' m' m2 ec R2 f2 R' f' 199 [(0, 2, 4), (3, 2, rP m p), (4, 0, bt (fup g j 1)), (5, 0, 5 + j), (6, 0, v)]
          rw [show (2 : Int) + j = 4 by omega] at this
          exact this
        · have := on v t' m' m2 ec R2 f2 R' f' 199 [(0, 2, 4), (3, 2, rP m p), (4, 0, bt (fup g j 1)), (5, 0, 5 + j), (6, 0, v)]
          rw [show (2 : Int) + j = 3 by omega] at this
          exact this
      · have j9 : (if j = 0 then (5 : Int) else 9) = 5 := if_pos (by omega)
        rw [j9] at on err
        refine r_passed hb R2 kk (by omega) (Nat.le_refl _) (Nat.le_refl _) (hh _) (fun v t' m' ec R' f' => ⟨R'.S, fun c4 => absurd c3 c4, fun c4 => ?_⟩) err
        have := on v t' m' m2 ec R2 f2 R' f' 199 [(0, 2, 4), (3, 2, rP m p), (4, 0, bt (fup g j 1)), (5, 0, 5 + j), (6, 0, v)]
        rw [show (2 : Int) + j = 2 by omega] at this
        exact this
    · refine r_failk R k (by omega) (by omega) (Nat.le_refl _) (Nat.le_refl _) (hh _) (fun o m' qe => ?_)
      have hx : x_ft tx (tm_v β 4 2) s1 p (q + 1) g f t = .error (5, kfr t) := by
        unfold x_ft
        rw [p_fts, if_neg (by omega), eft, if_pos c2]
      rw [hx]
      exact qe
/-- a place, but the sign behind it -/
def x_pl (tx : Int → Int) (n : Int) (s : TN) (t : TK) : EX (TN × TK) :=
  if ¬ nmT t then .error (wrg t) else if 0 ≤ p_nm s (kva t) then .error (3, kfr t) else if n_p s = 8 then .error (6, kfr t) else x_ft tx n (n_new s (kva t)) (n_p s) 4 (fun _ => 0) (n_f (n_new s (kva t))) (tok tx n (ken t))
theorem pl_x {n : Int} : p_pl tx n s t = xe tx n (x_pl tx n s t) := by
  unfold p_pl x_pl
  by_cases c1 : ¬ nmT t
  · rw [if_pos c1, if_pos c1]; rfl
  · rw [if_neg c1, if_neg c1]
    by_cases c2 : 0 ≤ p_nm s (kva t)
    · rw [if_pos c2, if_pos c2]; rfl
    · rw [if_neg c2, if_neg c2]
      by_cases c3 : n_p s = 8
      · rw [if_pos c3, if_pos c3]; rfl
      · rw [if_neg c3, if_neg c3]
        unfold p_pl2 x_ft
        have e : n_f (n_new s (kva t)) = fup (fup (fup (n_f s) (3 * n_p s) 0) (3 * n_p s + 1) 1) (3 * n_p s + 2) 1 := rfl
        rw [e]
        cases p_fts tx n (n_p s) 4 (fun _ => 0) (fup (fup (fup (n_f s) (3 * n_p s) 0) (3 * n_p s + 1) 1) (3 * n_p s + 2) 1) (tok tx n (ken t)) with
        | error e => rfl
        | ok r => rfl
theorem pX2_aPlace (hd : 8 ≤ d) (hb : bR z β tx) (h : RS z β μ s t) (hk : okK β t) (hw : wfT s) : tC mX2_aPlace d 2 11 [(2, 4)] μ (q_ex z β (x_pl tx (tm_v β 4 2) s t)) := by
  have hp8 := hw.1.1
  have hh : ∀ (pc : Nat), ∀ x ∈ mX2_aPlace.2.2.2.2, ¬ (x.1 ≤ pc ∧ pc < x.2.1) := fun pc x hx => by cases hx
  obtain ⟨⟨jT, jPA, jLA, jFA⟩, j2, -⟩ := id h.2.1
  have z104 := hb.1
  have ge : ∀ {x : Int} {k : Nat}, nw z μ x k → 1 ≤ x := fun h => by have := h.1.1; omega
  refine tC_of rfl (Nat.le_of_ble_eq_true rfl) (rX2_aPlace_0 h.S ?_)
  refine rcl_of (d' := d - 1) (pX2_name (by omega) h.S (h.1.X hb) h.2.2 hk.1 (by rw [h.1.tt hb]; exact hk.2.1) hk.2.2.1 hk.2.2.2.1 (by rw [h.1.n hb]; exact hk.2.2.2.2)) (by omega) (Nat.zero_le _) (Nat.zero_le _) (fun o μ1 q => ?_)
  unfold q_name at q
  rw [h.1.tt hb] at q
  rcases q with ⟨hN, rfl, rfl⟩ | ⟨hN, rfl, hE⟩
  · have k4 : kso t ≠ 4 := by have := hN.1; omega
    have eN := JR_nm h.2.1 hN hk.2.1
    refine Or.inl ⟨_, rfl, h.S, ⟨ge jT, jT.2⟩, ?_⟩
    refine rcl_of (d' := d - 1) (pX4_named (x := rT μ1) (v := nmC (c_tx β) t) h.S ⟨ge jT, jT.2⟩ ⟨ge jPA.1, jPA.1.2⟩ jPA.2 (by rw [j2.1]; exact hp8) (fun k k0 k1 => ⟨ge (h.2.1.P k0 (by rw [j2.1] at k1; exact k1)).1, (h.2.1.P k0 (by rw [j2.1] at k1; exact k1)).1.2⟩)) (by omega) (Nat.zero_le _) (Nat.zero_le _) (fun o μ3 q => ?_)
    obtain ⟨rfl, q⟩ := q
    rw [eN] at q
    rcases q with ⟨q1, rfl⟩ | ⟨q1, rfl⟩
    · have hx0 : x_pl tx (tm_v β 4 2) s t = if n_p s = 8 then .error (6, kfr t) else x_ft tx (tm_v β 4 2) (n_new s (kva t)) (n_p s) 4 (fun _ => 0) (n_f (n_new s (kva t))) (nxt tx β t) := by
        unfold x_pl
        rw [if_neg (fun q => q hN), if_neg (by omega)]
      refine Or.inl ⟨0, rfl, h.S, fun _ => ⟨⟨ge jT, jT.2⟩, fun c => ?_, fun c => ?_⟩, fun c => absurd c (by decide)⟩
      · have c8 : n_p s ≠ 8 := by rw [← j2.1]; exact c
        rw [if_neg c8] at hx0
        rw [hx0]
        refine r_next hb h hk (by omega) (Nat.zero_le _) (Nat.zero_le _) (fun m R f => ⟨R.S, ⟨by decide, by decide⟩, ?_⟩)
        obtain ⟨⟨t1, t2, t3, t4⟩, u, v7, P, L, iA, iL⟩ := id R.2.1
        have hzm : z ≤ tm_z m := by have := hb.2.1; have := R.1.2.1; omega
        have n4 : (4 : Int) ≠ tm_z m := by omega
        have lt : ∀ {x : Int} {k : Nat}, nw z m x k → x ≠ tm_z m := fun h => by have := h.1.2; omega
        have lt1 : ∀ {x : Int} {k : Nat}, nw z m x k → x ≠ tm_z m + 1 := fun h => by have := h.1.2; omega
        have g1 : ∀ {x : Int} {k : Nat}, nw z m x k → 1 ≤ x := fun h => by have := h.1.1; omega
        have G0 : gR z β (tm_a m 7 7) := R.1.a hb.2.1 7 7
        rintro m11 rfl
        have e48 : tm_v (tm_a m 7 7) 4 8 = rT m := by rw [tm_va, if_neg n4]; rfl
        have e2 : tm_v (tm_a m 7 7) (rT m) 2 = n_p s := by rw [tm_va, if_neg (lt t1)]; exact u.1
        rw [e48, e2]
        refine ⟨G0.1, ⟨g1 t1, by rw [tm_ka, if_neg (lt t1)]; exact t1.2⟩, by omega, ?_⟩
        refine rcl_of (d' := d - 1) (pX7_init G0.1 (x := tm_z m) (by omega) (by show tm_z m < tm_z m + 1; omega) (by rw [tm_ka, if_pos rfl]) (tfr_z (by omega))) (by omega) (by decide) (by decide) (fun o m14 q => ?_)
        obtain ⟨rfl, rfl⟩ := q
        have G1 : gR z β (mkP (tm_a m 7 7) (tm_z m) (nmC (c_tx β) t) (n_p s)) := by
          unfold mkP
          exact ((((((G0.w z104 hzm 3 1).w z104 hzm 4 1).a hb.2.1 27 4).w z104 hzm 6 _).w z104 hzm 0 _).w z104 hzm 1 _)
        have eZ : tm_z (tm_w (tm_w (tm_a m 7 7) (tm_z m) 3 1) (tm_z m) 4 1) = tm_z m + 1 := rfl
        have V : ∀ x j, x ≠ tm_z m → x ≠ tm_z m + 1 → tm_v (mkP (tm_a m 7 7) (tm_z m) (nmC (c_tx β) t) (n_p s)) x j = tm_v m x j := by
          intro x j hx hx1
          unfold mkP
          rw [tm_vw, if_neg (fun q => hx q.1), tm_vw, if_neg (fun q => hx q.1), tm_vw, if_neg (fun q => hx q.1), tm_va, eZ, if_neg hx1, tm_vw, if_neg (fun q => hx q.1), tm_vw, if_neg (fun q => hx q.1), tm_va, if_neg hx]
        have K : ∀ x, x ≠ tm_z m → x ≠ tm_z m + 1 → tm_k (mkP (tm_a m 7 7) (tm_z m) (nmC (c_tx β) t) (n_p s)) x = tm_k m x ∧ tm_n (mkP (tm_a m 7 7) (tm_z m) (nmC (c_tx β) t) (n_p s)) x = tm_n m x := by
          intro x hx hx1
          constructor
          · show tm_k (tm_a (tm_w (tm_w (tm_a m 7 7) (tm_z m) 3 1) (tm_z m) 4 1) 27 4) x = _
            rw [tm_ka, eZ, if_neg hx1]
            show tm_k (tm_a m 7 7) x = _
            rw [tm_ka, if_neg hx]
          · show tm_n (tm_a (tm_w (tm_w (tm_a m 7 7) (tm_z m) 3 1) (tm_z m) 4 1) 27 4) x = _
            rw [tm_na, eZ, if_neg hx1]
            show tm_n (tm_a m 7 7) x = _
            rw [tm_na, if_neg hx]
        have w4 : tm_v (mkP (tm_a m 7 7) (tm_z m) (nmC (c_tx β) t) (n_p s)) 4 8 = rT m := V 4 8 n4 (by omega)
        have w0 : tm_v (mkP (tm_a m 7 7) (tm_z m) (nmC (c_tx β) t) (n_p s)) (rT m) 0 = rPA m := V _ 0 (lt t1) (lt1 t1)
        have w2 : tm_v (mkP (tm_a m 7 7) (tm_z m) (nmC (c_tx β) t) (n_p s)) (rT m) 2 = n_p s := by rw [V _ 2 (lt t1) (lt1 t1)]; exact u.1
        refine Or.inl ⟨rfl, G1.1, ?_⟩
        rintro x15 rfl
        rw [w4, w0, w2]
        have kz : tm_k (mkP (tm_a m 7 7) (tm_z m) (nmC (c_tx β) t) (n_p s)) (tm_z m) = 7 := by
          show tm_k (tm_a (tm_w (tm_w (tm_a m 7 7) (tm_z m) 3 1) (tm_z m) 4 1) 27 4) _ = _
          rw [tm_ka, eZ, if_neg (by omega)]
          show tm_k (tm_a m 7 7) _ = _
          rw [tm_ka, if_pos rfl]
        refine ⟨⟨g1 t1, by rw [(K _ (lt t1) (lt1 t1)).1]; exact t1.2⟩, ⟨g1 t2.1, by rw [(K _ (lt t2.1) (lt1 t2.1)).1]; exact t2.1.2⟩, ⟨hp8.1, by rw [(K _ (lt t2.1) (lt1 t2.1)).2, t2.2]; omega⟩, ⟨by omega, kz⟩, ?_⟩
        rintro m20 rfl
        have G2 := G1.w z104 t2.1.1.1 (n_p s) (tm_z m)
        have e48' : tm_v (tm_w (mkP (tm_a m 7 7) (tm_z m) (nmC (c_tx β) t) (n_p s)) (rPA m) (n_p s) (tm_z m)) 4 8 = rT m := by
          rw [tm_vw, if_neg (fun q => by have := t2.1.1.1; omega)]; exact w4
        have e2' : tm_v (tm_w (mkP (tm_a m 7 7) (tm_z m) (nmC (c_tx β) t) (n_p s)) (rPA m) (n_p s) (tm_z m)) (rT m) 2 = n_p s := by
          rw [tm_vw, if_neg (fun q => t1.ne t2.1 (by decide) q.1)]; exact w2
        rw [e48', e2', w32_id (x := n_p s + 1) (by omega) (by omega)]
        refine ⟨G2.1, ⟨g1 t1, by show tm_k (mkP (tm_a m 7 7) (tm_z m) (nmC (c_tx β) t) (n_p s)) _ = 4; rw [(K _ (lt t1) (lt1 t1)).1]; exact t1.2⟩, ?_⟩
        rintro m22 rfl
        have G3 : gR z β (plc m s (nmC (c_tx β) t)) := G2.w z104 t1.1.1 2 (n_p s + 1)
        have hnm : nmE (c_tx β) (nmC (c_tx β) t) (kva t) := by
          obtain ⟨e1, e2, e3⟩ := hk.2.1 hN.1
          exact ⟨kfr t, (ken t - kfr t).toNat, by have := hN.2.1; omega, e2, rfl, e1⟩
        have J3 : JR z (c_tx β) (plc m s (nmC (c_tx β) t)) (n_new s (kva t)) := JR_new z104 R.2.1 hw hzm c8 hnm
        have kN := hk.n hb
        have R3 : RS z β (plc m s (nmC (c_tx β) t)) (n_ft (n_new s (kva t)) (n_f (n_new s (kva t)))) (nxt tx β t) := by
          refine ⟨G3, J3, ?_⟩
          have V4 : ∀ j, tm_v (plc m s (nmC (c_tx β) t)) 4 j = tm_v m 4 j := by
            intro j
            have := t1.1.1
            have := t2.1.1.1
            rw [plc_v 4 j (by omega), if_neg (fun q => by omega), if_neg (fun q => by omega)]
          have hC := R.2.2
          unfold hasC at hC ⊢
          rw [V4, V4, V4, V4]
          exact hC
        refine ⟨R3.S, r_key hb R3 kN (by omega) (Nat.le_refl _) (Nat.le_refl _) ⟨R3.S, ?_⟩⟩
        have lp := place_loop (p := n_p s) (s1 := n_new s (kva t)) (d := d) (by omega) hb hp8.1 (by show n_p s < n_p s + 1; omega) 4 (fun _ => 0) (n_f (n_new s (kva t))) (nxt tx β t) _ R3 kN (Or.inl rfl) (Or.inl rfl) (Or.inl rfl) (by decide)
        have eR : rP (plc m s (nmC (c_tx β) t)) (n_p s) = tm_z m := by
          have e1 : rT (plc m s (nmC (c_tx β) t)) = rT m := by
            unfold rT
            have := t1.1.1
            have := t2.1.1.1
            rw [plc_v 4 8 (by omega), if_neg (fun q => by unfold rT at *; omega), if_neg (fun q => by omega)]
          unfold rP rPA
          rw [e1, plc_v _ _ t1.1.2, if_neg (fun q => absurd q.2 (by decide)), if_neg (fun q => t1.ne t2.1 (by decide) q.1)]
          show tm_v (plc m s (nmC (c_tx β) t)) (rPA m) (n_p s) = _
          rw [plc_v _ _ t2.1.1.2, if_neg (fun q => t2.1.ne t1 (by decide) q.1), if_pos ⟨rfl, rfl⟩]
        rw [eR] at lp
        exact lp
      · have c8 : n_p s = 8 := by rw [← j2.1]; exact c
        rw [if_pos c8] at hx0
        rw [hx0]
        exact r_failk h hk k4 (by omega) (Nat.zero_le _) (Nat.zero_le _) (hh _) (fun o m' qe => qe)
    · have hpn : p_nm s (kva t) < n_p s := by
        have := fdn_spec (c := fun p => n_m s p = kva t) (e := -1) (n_p s).toNat 0
        unfold p_nm at q1 ⊢
        rcases this with z1 | z1 <;> omega
      have hPP := h.2.1.P q1 hpn
      refine Or.inl ⟨rP μ3 (p_nm s (kva t)), rfl, h.S, fun c => ?_, fun c => ?_⟩
      · have := ge hPP.1
        omega
      · have hx0 : x_pl tx (tm_v β 4 2) s t = .error (3, kfr t) := by
          unfold x_pl
          rw [if_neg (fun q => q hN), if_pos q1]
        rw [hx0]
        exact r_failk h hk k4 (by omega) (Nat.zero_le _) (Nat.zero_le _) (hh _) (fun o m' qe => qe)
  · refine Or.inr ⟨3, rfl, t_leave (fun x hx => by cases hx) (Nat.zero_le _) (Nat.zero_le _) ?_⟩
    have hp : x_pl tx (tm_v β 4 2) s t = .error (wrg t) := by unfold x_pl; rw [if_pos hN]
    rw [hp]
    exact isE.r h.1 ⟨rfl, hE⟩
end C0AP
