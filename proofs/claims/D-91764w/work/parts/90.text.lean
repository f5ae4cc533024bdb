/-! PURE: the text and its tokens -/
/-- sort (0 end, 1 word, 2 number, 3 sign, 4 bad), from, end, what it is worth -/
abbrev TK : Type := Int × Int × Int × Int
def kso (t : TK) : Int := t.1
def kfr (t : TK) : Int := t.2.1
def ken (t : TK) : Int := t.2.2.1
def kva (t : TK) : Int := t.2.2.2
def skp (tx : Int → Int) (n : Int) : Nat → Int → Int
  | 0, b => b
  | f + 1, b => if b < n ∧ (tx b = 10 ∨ tx b = 32) then skp tx n f (b + 1) else b
def rn (lo hi : Int) (tx : Int → Int) (n : Int) : Nat → Int → Int
  | 0, b => b
  | f + 1, b => if b < n ∧ lo ≤ tx b ∧ tx b ≤ hi then rn lo hi tx n f (b + 1) else b
def wd (tx : Int → Int) (a : Int) : Nat → Int
  | 0 => 0
  | k + 1 => if k < 8 then wd tx a k * 32 + tx (a + k) - 96 else -1
def nb (tx : Int → Int) (a : Int) : Nat → Int
  | 0 => 0
  | k + 1 => if k < 2 then 10 * nb tx a k + tx (a + k) - 48 else nb tx a k
def rnL (tx : Int → Int) (n a : Int) : Int := rn 97 122 tx n (n - a).toNat a
def rnD (tx : Int → Int) (n a : Int) : Int := rn 48 57 tx n (n - a).toNat a
def tokA (tx : Int → Int) (n a : Int) : TK :=
  if n ≤ a then (0, a, a, 0) else if 97 ≤ tx a ∧ tx a ≤ 122 then (1, a, rnL tx n a, wd tx a (rnL tx n a - a).toNat) else if 48 ≤ tx a ∧ tx a ≤ 57 then (if 2 < rnD tx n a - a then 4 else 2, a, rnD tx n a, nb tx a (rnD tx n a - a).toNat) else (if tx a = 59 then 3 else 4, a, a + 1, tx a)
/-- the token from b on -/
def tok (tx : Int → Int) (n b : Int) : TK := tokA tx n (skp tx n (n - b).toNat b)
theorem skp_in (tx : Int → Int) (n : Int) (f : Nat) : ∀ b, b ≤ skp tx n f b ∧ (b ≤ n → skp tx n f b ≤ n) := by
  induction f with
  | zero => intro b; rw [skp]; omega
  | succ f ih =>
    intro b
    rw [skp]
    split
    · have := ih (b + 1); omega
    · omega
theorem rn_in (lo hi : Int) (tx : Int → Int) (n : Int) (f : Nat) : ∀ b, b ≤ rn lo hi tx n f b ∧ (b ≤ n → rn lo hi tx n f b ≤ n) := by
  induction f with
  | zero => intro b; rw [rn]; omega
  | succ f ih =>
    intro b
    rw [rn]
    split
    · have := ih (b + 1); omega
    · omega
theorem rn_1 {lo hi : Int} {tx : Int → Int} {n b : Int} (h : b < n ∧ lo ≤ tx b ∧ tx b ≤ hi) : b < rn lo hi tx n (n - b).toNat b := by
  obtain ⟨f, hf⟩ : ∃ f : Nat, (n - b).toNat = f + 1 := ⟨(n - b).toNat - 1, by omega⟩
  rw [hf, rn, if_pos h]
  have := (rn_in lo hi tx n f (b + 1)).1
  omega
theorem tok_in {tx : Int → Int} {n b : Int} (h : b ≤ n) : b ≤ kfr (tok tx n b) ∧ kfr (tok tx n b) ≤ ken (tok tx n b) ∧ ken (tok tx n b) ≤ n ∧ (kso (tok tx n b) ≠ 0 → kfr (tok tx n b) < ken (tok tx n b)) := by
  have hs := skp_in tx n (n - b).toNat b
  unfold tok tokA
  split
  · simp only [kfr, ken, kso]; omega
  · split
    · rename_i c1 c2
      have h1 := rn_in 97 122 tx n (n - skp tx n (n - b).toNat b).toNat (skp tx n (n - b).toNat b)
      have h2 := rn_1 (lo := 97) (hi := 122) (tx := tx) (n := n) (b := skp tx n (n - b).toNat b) (by omega)
      simp only [kfr, ken, kso, rnL]; omega
    · split
      · rename_i c1 c2 c3
        have h1 := rn_in 48 57 tx n (n - skp tx n (n - b).toNat b).toNat (skp tx n (n - b).toNat b)
        have h2 := rn_1 (lo := 48) (hi := 57) (tx := tx) (n := n) (b := skp tx n (n - b).toNat b) (by omega)
        simp only [kfr, ken, kso, rnD]; omega
      · simp only [kfr, ken, kso]; omega
def bw : Nat → Int
  | 0 => 0
  | k + 1 => 32 * bw k + 26
theorem bw_in : ∀ k : Fin 9, bw k.val ≤ 1000000000000 := by decide +kernel
/-! a town that is read -/
abbrev TN : Type := Int × (Int → Int) × (Int → Int) × (Int → Int) × (Int → Int) × Int × (Int → Int) × (Int → Int) × Int × Int × Int × Int × Int
def n_p (s : TN) : Int := s.1
def n_m (s : TN) : Int → Int := s.2.1
def n_f (s : TN) : Int → Int := s.2.2.1
def n_d (s : TN) : Int → Int := s.2.2.2.1
def n_a (s : TN) : Int → Int := s.2.2.2.2.1
def n_l (s : TN) : Int := s.2.2.2.2.2.1
def n_1 (s : TN) : Int → Int := s.2.2.2.2.2.2.1
def n_2 (s : TN) : Int → Int := s.2.2.2.2.2.2.2.1
def n_s (s : TN) : Int := s.2.2.2.2.2.2.2.2.1
def n_h (s : TN) : Int := s.2.2.2.2.2.2.2.2.2.1
def n_c (s : TN) : Int := s.2.2.2.2.2.2.2.2.2.2.1
def n_t (s : TN) : Int := s.2.2.2.2.2.2.2.2.2.2.2.1
def n_u (s : TN) : Int := s.2.2.2.2.2.2.2.2.2.2.2.2
def tn0 : TN := (0, fun _ => 0, fun _ => 0, fun _ => 0, fun _ => 0, 0, fun _ => 0, fun _ => 0, 1, 0, 0, 0, 0)
abbrev EX (α : Type) : Type := Except (Int × Int) α
def wrg (t : TK) : Int × Int := (if kso t = 4 then 1 else 2, kfr t)
abbrev isW (t : TK) (w : Int) : Prop := kso t = 1 ∧ kva t = w
abbrev nmT (t : TK) : Prop := kso t = 1 ∧ ken t - kfr t ≤ 8 ∧ kva t ≠ 627891 ∧ kva t ≠ 6605428 ∧ kva t ≠ 642891204 ∧ kva t ≠ 17171557 ∧ kva t ≠ 394693 ∧ kva t ≠ 655 ∧ kva t ≠ 3751539 ∧ kva t ≠ 635383 ∧ kva t ≠ 8554067
def ftT (t : TK) : Int := if isW t 627891 then 0 else if isW t 6605428 then 1 else if isW t 642891204 then 2 else -1
/-- a number, and the token behind it -/
def p_cnt (tx : Int → Int) (n : Int) (t : TK) (lo hi : Int) : EX (Int × TK) := if kso t ≠ 2 then .error (wrg t) else if ¬ (lo ≤ kva t ∧ kva t ≤ hi) then .error (4, kfr t) else .ok (kva t, tok tx n (ken t))
/-- a place's features; h: which were told -/
def p_fts (tx : Int → Int) (n p : Int) : Nat → (Int → Int) → (Int → Int) → TK → EX ((Int → Int) × TK)
  | 0, _, f, t => .ok (f, t)
  | q + 1, h, f, t => if ftT t < 0 then .ok (f, t) else if h (ftT t) = 1 then .error (5, kfr t) else
    match p_cnt tx n (tok tx n (ken t)) 0 (if ftT t = 0 then 5 else 9) with
    | .error e => .error e
    | .ok (v, t') => p_fts tx n p q (fup h (ftT t) 1) (fup f (3 * p + ftT t) v) t'
/-- the number of a name -/
def p_nm (s : TN) (w : Int) : Int := fdn (fun p => n_m s p = w) (-1) (n_p s).toNat 0
/-- the sign that ends a part -/
def p_end (tx : Int → Int) (n : Int) (s : TN) (t : TK) : EX (TN × TK) := if kso t ≠ 3 then .error (wrg t) else .ok (s, tok tx n (ken t))
def p_pl2 (tx : Int → Int) (n : Int) (s : TN) (t : TK) : EX (TN × TK) :=
  match p_fts tx n (n_p s) 4 (fun _ => 0) (fup (fup (fup (n_f s) (3 * n_p s) 0) (3 * n_p s + 1) 1) (3 * n_p s + 2) 1) (tok tx n (ken t)) with
  | .error e => .error e
  | .ok (f, t') => p_end tx n (n_p s + 1, fup (n_m s) (n_p s) (kva t), f, fup (n_d s) (n_p s) 0, n_a s, n_l s, n_1 s, n_2 s, n_s s, n_h s, n_c s, n_t s, n_u s) t'
def p_pl (tx : Int → Int) (n : Int) (s : TN) (t : TK) : EX (TN × TK) :=
  if ¬ nmT t then .error (wrg t) else if 0 ≤ p_nm s (kva t) then .error (3, kfr t) else if n_p s = 8 then .error (6, kfr t) else p_pl2 tx n s t
def dup (s : TN) (a b : Int) : Prop := ∃ l, (0 ≤ l ∧ l < n_l s) ∧ ((n_1 s l = a ∧ n_2 s l = b) ∨ (n_1 s l = b ∧ n_2 s l = a))
/-- a lane is laid -/
def n_lay (s : TN) (a b : Int) : TN := (n_p s, n_m s, n_f s, fup (fup (n_d s) a (n_d s a + 1)) b (n_d s b + 1), fup (fup (n_a s) (4 * a + n_d s a) (n_l s)) (4 * b + n_d s b) (n_l s), n_l s + 1, fup (n_1 s) (n_l s) a, fup (n_2 s) (n_l s) b, n_s s, n_h s, n_c s, n_t s, n_u s)
noncomputable def p_ln3 (tx : Int → Int) (n : Int) (s : TN) (a : Int) (t : TK) : EX (TN × TK) :=
  if ¬ nmT t then .error (wrg t) else if p_nm s (kva t) < 0 then .error (3, kfr t) else if a = p_nm s (kva t) then .error (5, kfr t) else if n_d s (p_nm s (kva t)) = 4 then .error (6, kfr t) else
  @ite _ (dup s a (p_nm s (kva t))) (Classical.propDecidable _) (.error (6, kfr t)) (p_end tx n (n_lay s a (p_nm s (kva t))) (tok tx n (ken t)))
noncomputable def p_ln2 (tx : Int → Int) (n : Int) (s : TN) (a : Int) (t : TK) : EX (TN × TK) := if ¬ isW t 655 then .error (wrg t) else p_ln3 tx n s a (tok tx n (ken t))
noncomputable def p_ln1 (tx : Int → Int) (n : Int) (s : TN) (t : TK) : EX (TN × TK) :=
  if ¬ nmT t then .error (wrg t) else if p_nm s (kva t) < 0 then .error (3, kfr t) else if n_d s (p_nm s (kva t)) = 4 then .error (6, kfr t) else p_ln2 tx n s (p_nm s (kva t)) (tok tx n (ken t))
noncomputable def p_ln (tx : Int → Int) (n : Int) (s : TN) (t : TK) : EX (TN × TK) := if n_l s = 12 then .error (6, kfr t) else p_ln1 tx n s (tok tx n (ken t))
def p_rs (tx : Int → Int) (n : Int) (s : TN) (t : TK) : EX (TN × TK) :=
  if isW t 635383 then (if n_t s ≠ 0 then .error (5, kfr t) else match p_cnt tx n (tok tx n (ken t)) 1 4 with
    | .error e => .error e
    | .ok (v, t') => p_end tx n (n_p s, n_m s, n_f s, n_d s, n_a s, n_l s, n_1 s, n_2 s, v, n_h s, n_c s, 1, n_u s) t')
  else if isW t 8554067 then (if n_u s ≠ 0 then .error (5, kfr t) else match p_cnt tx n (tok tx n (ken t)) 0 3 with
    | .error e => .error e
    | .ok (v, t') => p_end tx n (n_p s, n_m s, n_f s, n_d s, n_a s, n_l s, n_1 s, n_2 s, n_s s, v, n_c s, n_t s, 1) t')
  else if isW t 3751539 then (if n_c s ≠ 0 then .error (5, kfr t) else p_end tx n (n_p s, n_m s, n_f s, n_d s, n_a s, n_l s, n_1 s, n_2 s, n_s s, n_h s, 1, n_t s, n_u s) (tok tx n (ken t)))
  else .error (wrg t)
noncomputable def p_pt (tx : Int → Int) (n : Int) (s : TN) (t : TK) : EX (TN × TK) := if isW t 17171557 then p_pl tx n s (tok tx n (ken t)) else if isW t 394693 then p_ln tx n s t else p_rs tx n s t
noncomputable def p_all (tx : Int → Int) (n : Int) : Nat → TN → TK → EX TN
  | 0, s, _ => .ok s
  | q + 1, s, t => if kso t = 0 then .ok s else
    match p_pt tx n s t with
    | .error e => .error e
    | .ok (s', t') => p_all tx n q s' t'
/-- the town of a text -/
noncomputable def p_town (tx : Int → Int) (n : Int) : EX TN := p_all tx n (n + 1).toNat tn0 (tok tx n 0)
/-! CONTRACTS of the model: the next token -/
section C7D
variable {d : Nat} {μ μ0 : tm_M} {W : Int → Int → Prop}
def y_tx (μ : tm_M) (k : Int) : Int := tm_v μ 69 k % 256
/-- the tape holds bytes -/
def y_B (μ : tm_M) : Prop := ∀ k, -128 ≤ tm_v μ 69 k ∧ tm_v μ 69 k ≤ 127
/-- a text is there -/
def y_X (μ : tm_M) : Prop := y_B μ ∧ 0 ≤ tm_v μ 65 9 ∧ tm_v μ 65 9 ≤ 500
def hasT (m : tm_M) (t : TK) : Prop := tm_v m 65 14 = kso t ∧ tm_v m 65 15 = kfr t ∧ tm_v m 65 16 = ken t ∧ (kso t = 1 → tm_v m 65 18 = ken t - kfr t ∧ tm_v m 65 19 = kva t) ∧ (kso t = 2 → tm_v m 65 17 = kva t)
theorem look_tx {k : Int} : y_look μ k = if k < tm_v μ 65 9 then y_tx μ k else 0 := rfl
theorem pX6_next (hd : 1 ≤ d) (hs : tS μ) (hX : y_X μ) (hb : 0 ≤ tm_v μ 65 16 ∧ tm_v μ 65 16 ≤ tm_v μ 65 9) : cV wX6_next mX6_next d [(2, 65)] μ (fun m => hasT m (tok (y_tx μ) (tm_v μ 65 9) (tm_v μ 65 16))) := by
  have hn := hX.2
  have e9 : ∀ m, tFr wX6_next μ m → tm_v m 65 9 = tm_v μ 65 9 := fun m h => h.v (tWs_noF rfl)
  have e69 : ∀ m, tFr wX6_next μ m → ∀ k, tm_v m 69 k = tm_v μ 69 k := fun m h k => h.v (tWs_no _ rfl)
  have bd : ∀ m, tFr wX6_next μ m → ∀ k, 0 ≤ k → 0 ≤ k ∧ tm_v m 65 9 ≤ 500 ∧ -128 ≤ tm_v m 69 k ∧ tm_v m 69 k ≤ 127 := by
    intro m h k k0
    rw [e9 m h, e69 m h]
    have := hX.1 k
    omega
  have lk : ∀ m, tFr wX6_next μ m → ∀ k, y_look m k = if k < tm_v μ 65 9 then y_tx μ k else 0 := by
    intro m h k
    rw [look_tx, e9 m h]
    unfold y_tx
    rw [e69 m h]
  have wj : ∀ {m : tm_M} {j x : Int}, tFr wX6_next μ m → (j = 14 ∨ j = 15 ∨ j = 16 ∨ j = 17 ∨ j = 18 ∨ j = 19) → tFr wX6_next μ (tm_w m 65 j x) := by
    intro m j x h hj
    rcases hj with rfl | rfl | rfl | rfl | rfl | rfl
    all_goals exact h.w (tWs_inF rfl) (tS_wj h.S _ (by decide))
  -- a word
  have letters : ∀ (a : Int), 0 ≤ a → ∀ (f : Nat) (e : Int) (m : tm_M), a ≤ e → e ≤ tm_v μ 65 9 → (f : Int) = tm_v μ 65 9 - e → tFr wX6_next μ m → tm_v m 65 14 = 1 → tm_v m 65 15 = a → tm_v m 65 16 = e → tm_v m 65 19 = wd (y_tx μ) a (e - a).toNat → (e - a ≤ 8 → 0 ≤ tm_v m 65 19 ∧ tm_v m 65 19 ≤ bw (e - a).toNat) →
      ∀ E, rn 97 122 (y_tx μ) (tm_v μ 65 9) f e = E → hV wX6_next μ mX6_next d (fun m => hasT m (1, a, E, wd (y_tx μ) a (E - a).toNat)) 109 [(0, 2, 65)] [] m := by
    intro a a0 f
    have stop : ∀ (e : Int) (m : tm_M), a ≤ e → e ≤ tm_v μ 65 9 → tFr wX6_next μ m → tm_v m 65 14 = 1 → tm_v m 65 15 = a → tm_v m 65 16 = e → tm_v m 65 19 = wd (y_tx μ) a (e - a).toNat → ∀ m', m' = tm_w m 65 18 (w32 (tm_v m 65 16 - tm_v m 65 15)) → hV wX6_next μ mX6_next d (fun m => hasT m (1, a, e, wd (y_tx μ) a (e - a).toNat)) 328 [] [] m' := by
      intro e m he hen hm h14 h15 h16 h19 m' e'
      rw [h15, h16, w32_id (by omega) (by omega)] at e'
      refine uX6_next_328 (by rw [e']; exact wj hm (by omega)) ⟨?_, ?_, ?_, fun _ => ⟨?_, ?_⟩, fun h => absurd h (by show ¬ (1 : Int) = 2; decide)⟩
      · rw [e', tm_vw, if_neg (by omega)]; exact h14
      · rw [e', tm_vw, if_neg (by omega)]; exact h15
      · rw [e', tm_vw, if_neg (by omega)]; exact h16
      · rw [e', tm_vw, if_pos ⟨rfl, rfl⟩]; rfl
      · rw [e', tm_vw, if_neg (by omega)]; exact h19
    induction f with
    | zero =>
      intro e m he hen hf hm h14 h15 h16 h19 hbw E hE
      rw [rn] at hE
      subst hE
      have st := stop e m he hen hm h14 h15 h16 h19
      rw [h16] at st
      refine uX6_next_109 hd hm ?_
      rw [h16, lk m hm, if_neg (by omega)]
      exact ⟨bd m hm e (by omega), fun _ => st, fun c => absurd c (by omega)⟩
    | succ f ih =>
      intro e m he hen hf hm h14 h15 h16 h19 hbw E hE
      have st := stop e m he hen hm h14 h15 h16 h19
      rw [h16] at st
      refine uX6_next_109 hd hm ?_
      rw [h16, lk m hm, if_pos (by omega)]
      refine ⟨bd m hm e (by omega), fun c => ?_, fun c => ?_⟩
      · rw [rn, if_neg (fun q => c q.2)] at hE
        subst hE
        exact st
      · rw [rn, if_pos ⟨by omega, c⟩] at hE
        rw [h15, w32_id (x := e - a) (by omega) (by omega)]
        have ek : (e + 1 - a).toNat = (e - a).toNat + 1 := by omega
        refine ⟨fun c8 => ?_, fun c8 => ?_⟩
        · intro m1 e1 m2 e2
          have g1 : tFr wX6_next μ m1 := by rw [e1]; exact wj hm (by omega)
          rw [show tm_v m1 65 16 = e by rw [e1, tm_vw, if_neg (by omega)]; exact h16, w32_id (x := e + 1) (by omega) (by omega)] at e2
          refine ih (e + 1) m2 (by omega) (by omega) (by omega) (by rw [e2]; exact wj g1 (by omega)) ?_ ?_ ?_ ?_ (fun h => by omega) E hE
          · rw [e2, e1]; simp [tm_vw]; exact h14
          · rw [e2, e1]; simp [tm_vw]; exact h15
          · rw [e2]; simp [tm_vw]
          · rw [e2, e1, ek, wd, if_neg (by omega)]; simp [tm_vw]
        · intro m1 e1 m2 e2
          have hb8 := hbw (by omega)
          have hbm := bw_in ⟨(e - a).toNat, by omega⟩
          dsimp only at hbm
          rw [w64_id (x := tm_v m 65 19 * 32) (by omega) (by omega), w64_id (x := tm_v m 65 19 * 32 + y_tx μ e) (by omega) (by omega), w64_id (x := tm_v m 65 19 * 32 + y_tx μ e - 96) (by omega) (by omega)] at e1
          have g1 : tFr wX6_next μ m1 := by rw [e1]; exact wj hm (by omega)
          rw [show tm_v m1 65 16 = e by rw [e1, tm_vw, if_neg (by omega)]; exact h16, w32_id (x := e + 1) (by omega) (by omega)] at e2
          have v19 : tm_v m2 65 19 = tm_v m 65 19 * 32 + y_tx μ e - 96 := by rw [e2, e1]; simp [tm_vw]
          refine ih (e + 1) m2 (by omega) (by omega) (by omega) (by rw [e2]; exact wj g1 (by omega)) ?_ ?_ ?_ ?_ (fun h => ?_) E hE
          · rw [e2, e1]; simp [tm_vw]; exact h14
          · rw [e2, e1]; simp [tm_vw]; exact h15
          · rw [e2]; simp [tm_vw]
          · rw [v19, ek, wd, if_pos (by omega), ← h19, show a + ((e - a).toNat : Int) = e by omega]
          · rw [v19, ek, bw]; omega
  have digits : ∀ (a : Int), 0 ≤ a → ∀ (f : Nat) (e : Int) (m : tm_M), a ≤ e → e ≤ tm_v μ 65 9 → (f : Int) = tm_v μ 65 9 - e → tFr wX6_next μ m → tm_v m 65 15 = a → tm_v m 65 16 = e → tm_v m 65 17 = nb (y_tx μ) a (e - a).toNat → (0 ≤ tm_v m 65 17 ∧ tm_v m 65 17 ≤ 99 ∧ (e - a ≤ 1 → tm_v m 65 17 ≤ 9) ∧ (e - a ≤ 0 → tm_v m 65 17 = 0)) →
      ∀ E, rn 48 57 (y_tx μ) (tm_v μ 65 9) f e = E → hV wX6_next μ mX6_next d (fun m => hasT m (if 2 < E - a then 4 else 2, a, E, nb (y_tx μ) a (E - a).toNat)) 210 [(0, 2, 65)] [] m := by
    intro a a0 f
    have stop : ∀ (e : Int) (m : tm_M), a ≤ e → e ≤ tm_v μ 65 9 → tFr wX6_next μ m → tm_v m 65 15 = a → tm_v m 65 16 = e → tm_v m 65 17 = nb (y_tx μ) a (e - a).toNat → ((w32 (e - tm_v m 65 15) ≤ 2 → (∀ μ12, μ12 = tm_w m 65 14 2 → hV wX6_next μ mX6_next d (fun m => hasT m (if 2 < e - a then 4 else 2, a, e, nb (y_tx μ) a (e - a).toNat)) 328 [] [] μ12)) ∧ (2 < w32 (e - tm_v m 65 15) → (∀ μ13, μ13 = tm_w m 65 14 4 → hV wX6_next μ mX6_next d (fun m => hasT m (if 2 < e - a then 4 else 2, a, e, nb (y_tx μ) a (e - a).toNat)) 328 [] [] μ13))) := by
      intro e m he hen hm h15 h16 h17
      rw [h15, w32_id (x := e - a) (by omega) (by omega)]
      have go : ∀ x m', m' = tm_w m 65 14 x → x = (if 2 < e - a then 4 else 2) → hV wX6_next μ mX6_next d (fun m => hasT m (if 2 < e - a then 4 else 2, a, e, nb (y_tx μ) a (e - a).toNat)) 328 [] [] m' := by
        intro x m' e' ex
        refine uX6_next_328 (by rw [e']; exact wj hm (by omega)) ⟨?_, ?_, ?_, fun h => ?_, fun _ => ?_⟩
        · rw [e', tm_vw, if_pos ⟨rfl, rfl⟩]; exact ex
        · rw [e', tm_vw, if_neg (by omega)]; exact h15
        · rw [e', tm_vw, if_neg (by omega)]; exact h16
        · exfalso
          have h' : (if 2 < e - a then (4 : Int) else 2) = 1 := h
          split at h' <;> omega
        · rw [e', tm_vw, if_neg (by omega)]; exact h17
      exact ⟨fun c m' e' => go 2 m' e' (by rw [if_neg (by omega)]), fun c m' e' => go 4 m' e' (by rw [if_pos c])⟩
    induction f with
    | zero =>
      intro e m he hen hf hm h15 h16 h17 hbn E hE
      rw [rn] at hE
      subst hE
      refine uX6_next_210 hd hm ?_
      rw [h16, lk m hm, if_neg (show ¬ e < tm_v μ 65 9 by omega)]
      exact ⟨bd m hm e (by omega), fun _ => stop e m he hen hm h15 h16 h17, fun c => absurd c (by omega)⟩
    | succ f ih =>
      intro e m he hen hf hm h15 h16 h17 hbn E hE
      refine uX6_next_210 hd hm ?_
      rw [h16, lk m hm, if_pos (show e < tm_v μ 65 9 by omega)]
      refine ⟨bd m hm e (by omega), fun c => ?_, fun c => ?_⟩
      · rw [rn, if_neg (fun q => c q.2)] at hE
        subst hE
        exact stop e m he hen hm h15 h16 h17
      · rw [rn, if_pos ⟨by omega, c⟩] at hE
        rw [h15, w32_id (x := e - a) (by omega) (by omega)]
        have ek : (e + 1 - a).toNat = (e - a).toNat + 1 := by omega
        have nx : ∀ m1, tFr wX6_next μ m1 → tm_v m1 65 15 = a → tm_v m1 65 16 = e → tm_v m1 65 17 = nb (y_tx μ) a ((e - a).toNat + 1) → (0 ≤ tm_v m1 65 17 ∧ tm_v m1 65 17 ≤ 99 ∧ (e + 1 - a ≤ 1 → tm_v m1 65 17 ≤ 9)) → hV wX6_next μ mX6_next d (fun m => hasT m (if 2 < E - a then 4 else 2, a, E, nb (y_tx μ) a (E - a).toNat)) 260 [(0, 2, 65)] [] m1 := by
          intro m1 g1 k15 k16 k17 kb
          refine uX6_next_260 g1 ?_
          intro m2 e2
          rw [k16, w32_id (x := e + 1) (by omega) (by omega)] at e2
          have v17 : tm_v m2 65 17 = tm_v m1 65 17 := by rw [e2, tm_vw, if_neg (by omega)]
          refine ih (e + 1) m2 (by omega) (by omega) (by omega) (by rw [e2]; exact wj g1 (by omega)) ?_ ?_ ?_ ?_ E hE
          · rw [e2, tm_vw, if_neg (by omega)]; exact k15
          · rw [e2, tm_vw, if_pos ⟨rfl, rfl⟩]
          · rw [v17, k17, ek]
          · rw [v17]; exact ⟨kb.1, kb.2.1, kb.2.2, fun h => by omega⟩
        refine ⟨fun c2 => nx m hm h15 h16 ?_ ?_, fun c2 m1 e1 => ?_⟩
        · rw [nb, if_neg (by omega)]; exact h17
        · exact ⟨hbn.1, hbn.2.1, fun h => by omega⟩
        · have hb1 : tm_v m 65 17 ≤ 9 := hbn.2.2.1 (by omega)
          rw [w32_id (x := 10 * tm_v m 65 17) (by omega) (by omega), w32_id (x := 10 * tm_v m 65 17 + y_tx μ e) (by omega) (by omega), w32_id (x := 10 * tm_v m 65 17 + y_tx μ e - 48) (by omega) (by omega)] at e1
          have v17 : tm_v m1 65 17 = 10 * tm_v m 65 17 + y_tx μ e - 48 := by rw [e1, tm_vw, if_pos ⟨rfl, rfl⟩]
          refine nx m1 (by rw [e1]; exact wj hm (by omega)) (by rw [e1, tm_vw, if_neg (by omega)]; exact h15) (by rw [e1, tm_vw, if_neg (by omega)]; exact h16) ?_ ?_
          · rw [v17, nb, if_pos (by omega), ← h17, show a + ((e - a).toNat : Int) = e by omega]
          · rw [v17]
            refine ⟨by omega, by omega, fun h => ?_⟩
            have := hbn.2.2.2 (by omega)
            omega
  -- behind the spaces
  have behind : ∀ (a : Int) (m : tm_M), 0 ≤ a → a ≤ tm_v μ 65 9 → tFr wX6_next μ m → tm_v m 65 15 = a → hV wX6_next μ mX6_next d (fun m => hasT m (tokA (y_tx μ) (tm_v μ 65 9) a)) 58 [(0, 2, 65)] [] m := by
    intro a m a0 an hm h15
    refine uX6_next_58 hd hm ?_
    intro m1 e1
    rw [h15] at e1
    have g1 : tFr wX6_next μ m1 := by rw [e1]; exact wj hm (by omega)
    have k15 : tm_v m1 65 15 = a := by rw [e1, tm_vw, if_neg (by omega)]; exact h15
    have k16 : tm_v m1 65 16 = a := by rw [e1, tm_vw, if_pos ⟨rfl, rfl⟩]
    rw [k15]
    unfold tokA
    refine ⟨fun c => ⟨bd m1 g1 a a0, ?_⟩, fun c => ?_⟩
    · rw [if_neg (by omega)]
      rintro x ex
      rw [lk m1 g1, if_pos c] at ex
      subst ex
      refine ⟨fun c1 => ⟨fun c2 => ?_, fun c2 => ?_⟩, fun c1 => ?_⟩
      · rw [if_neg c1, if_neg c2]
        intro m2 e2 m3 e3
        rw [w32_id (x := a + 1) (by omega) (by omega)] at e2
        have g2 : tFr wX6_next μ m2 := by rw [e2]; exact wj g1 (by omega)
        have g3 : tFr wX6_next μ m3 := by rw [e3]; exact wj g2 (by omega)
        have go : ∀ x m', m' = tm_w m3 65 14 x → x = (if y_tx μ a = 59 then 3 else 4) → hV wX6_next μ mX6_next d (fun m => hasT m (if y_tx μ a = 59 then 3 else 4, a, a + 1, y_tx μ a)) 328 [] [] m' := by
          intro x m' e' ex
          have hne : (if y_tx μ a = 59 then (3 : Int) else 4) ≠ 1 ∧ (if y_tx μ a = 59 then (3 : Int) else 4) ≠ 2 := by split <;> decide
          refine uX6_next_328 (by rw [e']; exact wj g3 (by omega)) ⟨?_, ?_, ?_, fun h => absurd h hne.1, fun h => absurd h hne.2⟩
          · rw [e', tm_vw, if_pos ⟨rfl, rfl⟩]; exact ex
          · rw [e', e3, e2]; simp [tm_vw]; exact k15
          · rw [e', e3, e2]; simp [tm_vw]; rfl
        exact ⟨fun c3 m' e' => go 4 m' e' (by rw [if_neg c3]), fun c3 m' e' => go 3 m' e' (by rw [if_pos c3])⟩
      · rw [if_neg c1, if_pos c2]
        intro m2 e2
        have ez : (a - a).toNat = 0 := by omega
        refine digits a a0 (tm_v μ 65 9 - a).toNat a m2 (by omega) an (by omega) (by rw [e2]; exact wj g1 (by omega)) ?_ ?_ ?_ ?_ _ rfl
        · rw [e2, tm_vw, if_neg (by omega)]; exact k15
        · rw [e2, tm_vw, if_neg (by omega)]; exact k16
        · rw [e2, tm_vw, if_pos ⟨rfl, rfl⟩, ez]; rfl
        · rw [e2, tm_vw, if_pos ⟨rfl, rfl⟩]; omega
      · rw [if_pos c1]
        intro m2 e2 m3 e3
        have g2 : tFr wX6_next μ m2 := by rw [e2]; exact wj g1 (by omega)
        have ez : (a - a).toNat = 0 := by omega
        refine letters a a0 (tm_v μ 65 9 - a).toNat a m3 (by omega) an (by omega) (by rw [e3]; exact wj g2 (by omega)) ?_ ?_ ?_ ?_ (fun _ => ?_) _ rfl
        · rw [e3, e2]; simp [tm_vw]
        · rw [e3, e2]; simp [tm_vw]; exact k15
        · rw [e3, e2]; simp [tm_vw]; exact k16
        · rw [e3, tm_vw, if_pos ⟨rfl, rfl⟩, ez]; rfl
        · rw [e3, tm_vw, if_pos ⟨rfl, rfl⟩, ez]; decide
    · rw [if_pos c]
      intro m2 e2
      refine ⟨?_, ?_, ?_, fun h => absurd h (by show ¬ (0 : Int) = 1; decide), fun h => absurd h (by show ¬ (0 : Int) = 2; decide)⟩
      · rw [e2, tm_vw, if_pos ⟨rfl, rfl⟩]; rfl
      · rw [e2, tm_vw, if_neg (by omega)]; exact k15
      · rw [e2, tm_vw, if_neg (by omega)]; exact k16
  have spaces : ∀ (f : Nat) (a : Int) (m : tm_M), 0 ≤ a → a ≤ tm_v μ 65 9 → (f : Int) = tm_v μ 65 9 - a → tFr wX6_next μ m → tm_v m 65 15 = a → hV wX6_next μ mX6_next d (fun m => hasT m (tokA (y_tx μ) (tm_v μ 65 9) (skp (y_tx μ) (tm_v μ 65 9) f a))) 8 [(0, 2, 65)] [] m := by
    intro f
    induction f with
    | zero =>
      intro a m a0 an hf hm h15
      refine uX6_next_8 hd hm ?_
      rw [h15, skp]
      exact ⟨fun _ => behind a m a0 an hm h15, fun c => by omega⟩
    | succ f ih =>
      intro a m a0 an hf hm h15
      refine uX6_next_8 hd hm ?_
      have el := lk m hm a
      rw [if_pos (show a < tm_v μ 65 9 by omega)] at el
      rw [h15, skp, el]
      have go : y_tx μ a = 10 ∨ y_tx μ a = 32 → hV wX6_next μ mX6_next d (fun m => hasT m (tokA (y_tx μ) (tm_v μ 65 9) (if a < tm_v μ 65 9 ∧ (y_tx μ a = 10 ∨ y_tx μ a = 32) then skp (y_tx μ) (tm_v μ 65 9) f (a + 1) else a))) 45 [(0, 2, 65)] [] m := by
        intro h
        rw [if_pos ⟨by omega, h⟩]
        refine uX6_next_45 hm ?_
        intro m1 e1
        rw [h15, w32_id (x := a + 1) (by omega) (by omega)] at e1
        exact ih (a + 1) m1 (by omega) (by omega) (by omega) (by rw [e1]; exact wj hm (by omega)) (by rw [e1, tm_vw, if_pos ⟨rfl, rfl⟩])
      refine ⟨fun c => by omega, fun _ => ⟨bd m hm a a0, fun c => go (Or.inl c), fun c1 => ⟨fun c2 => ?_, fun c2 => go (Or.inr c2)⟩⟩⟩
      rw [if_neg (by omega)]
      exact behind a m a0 an hm h15
  refine t_of (uX6_next_0 (tFr.rf hs) ?_)
  intro m1 e1
  exact spaces (tm_v μ 65 9 - tm_v μ 65 16).toNat (tm_v μ 65 16) m1 hb.1 hb.2 (by omega) (by rw [e1]; exact wj (tFr.rf hs) (by omega)) (by rw [e1, tm_vw, if_pos ⟨rfl, rfl⟩])
end C7D
