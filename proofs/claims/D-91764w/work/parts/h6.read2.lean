/-! PURE: tokens read the text alone; CONTRACT of the component: the reading of a text -/
section TKC
variable {tx tx' : Int → Int} {n : Int}
theorem skp_cg (h : ∀ j, 0 ≤ j → j < n → tx j = tx' j) : ∀ (f : Nat) (b : Int), 0 ≤ b → skp tx n f b = skp tx' n f b := by
  intro f
  induction f with
  | zero => intro b _; rfl
  | succ f ih =>
    intro b b0
    rw [skp, skp]
    by_cases c : b < n
    · rw [h b b0 c, ih (b + 1) (by omega)]
    · rw [if_neg (fun q => c q.1), if_neg (fun q => c q.1)]
theorem rn_cg {lo hi : Int} (h : ∀ j, 0 ≤ j → j < n → tx j = tx' j) : ∀ (f : Nat) (b : Int), 0 ≤ b → rn lo hi tx n f b = rn lo hi tx' n f b := by
  intro f
  induction f with
  | zero => intro b _; rfl
  | succ f ih =>
    intro b b0
    rw [rn, rn]
    by_cases c : b < n
    · rw [h b b0 c, ih (b + 1) (by omega)]
    · rw [if_neg (fun q => c q.1), if_neg (fun q => c q.1)]
theorem wd_cg (h : ∀ j, 0 ≤ j → j < n → tx j = tx' j) {a : Int} (a0 : 0 ≤ a) : ∀ k : Nat, a + k ≤ n → wd tx a k = wd tx' a k := by
  intro k
  induction k with
  | zero => intro _; rfl
  | succ k ih =>
    intro hk
    rw [wd, wd, ih (by omega), h (a + k) (by omega) (by omega)]
theorem nb_cg (h : ∀ j, 0 ≤ j → j < n → tx j = tx' j) {a : Int} (a0 : 0 ≤ a) : ∀ k : Nat, a + k ≤ n → nb tx a k = nb tx' a k := by
  intro k
  induction k with
  | zero => intro _; rfl
  | succ k ih =>
    intro hk
    rw [nb, nb, ih (by omega), h (a + k) (by omega) (by omega)]
theorem tok_cg (h : ∀ j, 0 ≤ j → j < n → tx j = tx' j) {b : Int} (b0 : 0 ≤ b) (bn : b ≤ n) : tok tx n b = tok tx' n b := by
  unfold tok
  rw [← skp_cg h _ _ b0]
  have hs := skp_in tx n (n - b).toNat b
  generalize skp tx n (n - b).toNat b = a at hs ⊢
  have a0 : 0 ≤ a := by omega
  unfold tokA
  by_cases c : n ≤ a
  · rw [if_pos c, if_pos c]
  · rw [if_neg c, if_neg c, h a a0 (by omega)]
    have eL : rnL tx n a = rnL tx' n a := rn_cg h _ _ a0
    have eD : rnD tx n a = rnD tx' n a := rn_cg h _ _ a0
    have iL := rn_in 97 122 tx' n (n - a).toNat a
    have iD := rn_in 48 57 tx' n (n - a).toNat a
    rw [eL, eD, wd_cg h a0 _ (by unfold rnL; omega), nb_cg h a0 _ (by unfold rnD; omega)]
end TKC
section C0RA
variable {tx : Int → Int} {d : Nat} {z n : Int} {β m μ : tm_M} {s : TN} {t : TK}
/-- the town, or what is wrong -/
def q_rd (z : Int) (β : tm_M) (r : EX TN) : tQ := fun o m => match r with
  | .error e => q_er z β e o m
  | .ok s => o = .inl (some (2, tm_v m 4 8)) ∧ gR z β m ∧ JR z (c_tx β) m s ∧ wfT s
/-- where the reading starts -/
def rd3 (μ : tm_M) (n : Int) : tm_M := tm_w (tm_w (tm_w μ 4 2 n) 4 5 0) 4 7 0
def rd0 (μ : tm_M) (n : Int) : tm_M := tm_w (mkT (tm_a (rd3 μ n) 4 8) (tm_z μ)) 4 8 (tm_z μ)
theorem read_loop (hd : 12 ≤ d) (hb : bR z β tx) : ∀ (q : Nat) (s : TN) (t : TK) (m : tm_M) (nc ns : Nat), RS z β m s t → okK β t → wfT s → tuB s → (kso t ≠ 0 → tm_v β 4 2 - ken t < q) → (nc : Int) + 2 * (9 - n_p s) + (12 - n_l s) ≤ 34 → (ns : Int) + 11 * (9 - n_p s) + 3 * (12 - n_l s) ≤ 171 →
    tH mX2_read d 34 171 (tq (q_rd z β (p_all tx (tm_v β 4 2) q s t)) 34 171) 30 [(0, 2, 4)] [] m nc ns := by
  have hh : ∀ (pc : Nat), ∀ x ∈ mX2_read.2.2.2.2, ¬ (x.1 ≤ pc ∧ pc < x.2.1) := fun pc x hx => by cases hx
  have stop : ∀ (q : Nat) (s : TN) (t : TK) (m : tm_M) (nc ns : Nat), RS z β m s t → wfT s → kso t = 0 → (nc : Int) + 2 * (9 - n_p s) + (12 - n_l s) ≤ 34 → (ns : Int) + 11 * (9 - n_p s) + 3 * (12 - n_l s) ≤ 171 → (tm_v m 4 3 = 0 → (nc ≤ 34 ∧ ns ≤ 171) ∧ q_rd z β (p_all tx (tm_v β 4 2) q s t) (.inl (some (2, tm_v m 4 8))) m) := by
    intro q s t m nc ns R hw k0 h1 h2 _
    have w1 := hw.1
    have e : p_all tx (tm_v β 4 2) q s t = .ok s := by
      cases q with
      | zero => rfl
      | succ q => rw [p_all, if_pos k0]
    rw [e]
    exact ⟨⟨by omega, by omega⟩, rfl, R.1, R.2.1, hw⟩
  intro q
  induction q with
  | zero =>
    intro s t m nc ns R k hw hu hq h1 h2
    have k0 : kso t = 0 := by
      by_cases c : kso t = 0
      · exact c
      · have := hq c
        have := k.2.2.2.2
        omega
    have v3 : tm_v m 4 3 = 0 := by rw [R.2.2.1, k0]; rfl
    exact rX2_read_30 R.S ⟨stop 0 s t m nc ns R hw k0 h1 h2, fun c => absurd v3 c⟩
  | succ q ih =>
    intro s t m nc ns R k hw hu hq h1 h2
    have w1 := hw.1
    by_cases k0 : kso t = 0
    · have v3 : tm_v m 4 3 = 0 := by rw [R.2.2.1, k0]; rfl
      exact rX2_read_30 R.S ⟨stop (q + 1) s t m nc ns R hw k0 h1 h2, fun c => absurd v3 c⟩
    · have v3 : tm_v m 4 3 ≠ 0 := by
        rw [R.2.2.1]
        intro e
        exact k0 ((cso_eq (c := 0) k.1.1 k.1.2 (by decide) (by decide)).mp e)
      have hlt := hq k0
      refine rX2_read_30 R.S ⟨fun c => absurd c v3, fun _ => ?_⟩
      have eA : p_all tx (tm_v β 4 2) (q + 1) s t = match xe tx (tm_v β 4 2) (x_pt tx (tm_v β 4 2) s t) with
          | .error e => .error e
          | .ok (s', t') => p_all tx (tm_v β 4 2) q s' t' := by
        rw [p_all, if_neg k0, pt_x w1.1.1]
        cases xe tx (tm_v β 4 2) (x_pt tx (tm_v β 4 2) s t) <;> rfl
      refine rcl_of (d' := d - 1) (mc' := if kyT t = 0 then 2 else if kyT t = 1 ∧ n_l s ≠ 12 then 1 else 0) (ms' := if kyT t = 0 then 11 else if kyT t = 1 ∧ n_l s ≠ 12 then 3 else 0) (pX2_part (by omega) hb R k hw hu (fun c => ?_) (fun c c' => ?_)) (by omega) ?_ ?_ (fun o m4 q4 => ?_)
      · rw [if_pos c, if_pos c]; omega
      · rw [if_neg (by omega), if_pos ⟨c, c'⟩, if_neg (by omega), if_pos ⟨c, c'⟩]; omega
      · split
        · omega
        · split
          · rename_i c; have := c.2; omega
          · omega
      · split
        · omega
        · split
          · rename_i c; have := c.2; omega
          · omega
      have c1 : nc + (if kyT t = 0 then 2 else if kyT t = 1 ∧ n_l s ≠ 12 then 1 else 0) ≤ 34 := by
        split
        · omega
        · split
          · rename_i c; have := c.2; omega
          · omega
      have c2 : ns + (if kyT t = 0 then 11 else if kyT t = 1 ∧ n_l s ≠ 12 then 3 else 0) ≤ 171 := by
        split
        · omega
        · split
          · rename_i c; have := c.2; omega
          · omega
      rw [eA]
      cases e : x_pt tx (tm_v β 4 2) s t with
      | error er =>
        rw [e] at q4
        have q4 : q_er z β er o m4 := q4
        obtain ⟨rfl, -⟩ := id q4
        exact Or.inr ⟨3, rfl, t_leave (hh _) c1 c2 q4⟩
      | ok r =>
        obtain ⟨s', t'⟩ := r
        rw [e] at q4
        obtain ⟨rfl, R4, k4⟩ := q4
        have R4 : RS z β m4 s' t' := R4
        have k4 : okK β t' := k4
        obtain ⟨u4, p4, l4, n4⟩ := x_pt_c e hu
        refine Or.inl ⟨rfl, R4.S, fun c => ?_, fun c => ?_⟩
        · have hso : kso t' ≠ 3 := by
            intro q3
            apply c
            rw [R4.2.2.1, q3]
            rfl
          have ee : xe tx (tm_v β 4 2) (.ok (s', t')) = .error (wrg t') := by
            show p_end tx (tm_v β 4 2) s' t' = _
            unfold p_end
            rw [if_pos hso]
          rw [ee]
          exact r_need0 R4 k4 (by omega) c1 c2 (hh _) (fun o m' qe => qe)
        · have hso : kso t' = 3 := by
            rw [R4.2.2.1] at c
            exact (cso_eq (c := 3) k4.1.1 k4.1.2 (by decide) (by decide)).mp c
          have ee : xe tx (tm_v β 4 2) (.ok (s', t')) = .ok (s', nxt tx β t') := by
            show p_end tx (tm_v β 4 2) s' t' = _
            unfold p_end
            rw [if_neg (fun q => q hso)]
          have hpt : p_pt tx (tm_v β 4 2) s t = .ok (s', nxt tx β t') := by rw [pt_x w1.1.1, e, ee]
          obtain ⟨w', ad⟩ := p_pt_ok hpt (by have := k.2.2; omega) k.2.2.2.2 hw
          have w1' := w'.1
          rw [ee]
          refine r_need1 R4.S (by omega) c1 c2 ⟨R4.S, r_next hb R4 k4 (by omega) c1 c2 (fun m8 R8 f8 => ⟨R8.S, ?_⟩)⟩
          refine ih s' (nxt tx β t') m8 _ _ R8 (k4.n hb) w' u4 (fun q0 => ?_) ?_ ?_
          · have := ad.1 q0
            omega
          · rw [p4, l4]
            split
            · rw [if_neg (by omega)]; omega
            · by_cases c3 : kyT t = 1
              · rw [if_pos ⟨c3, n4 c3⟩, if_pos c3]; omega
              · rw [if_neg (fun q => c3 q.1), if_neg c3]; omega
          · rw [p4, l4]
            split
            · rw [if_neg (by omega)]; omega
            · by_cases c3 : kyT t = 1
              · rw [if_pos ⟨c3, n4 c3⟩, if_pos c3]; omega
              · rw [if_neg (fun q => c3 q.1), if_neg c3]; omega
theorem rd3_v (a j : Int) : tm_v (rd3 μ n) a j = if a = 4 ∧ j = 7 then 0 else if a = 4 ∧ j = 5 then 0 else if a = 4 ∧ j = 2 then n else tm_v μ a j := by
  unfold rd3
  rw [tm_vw, tm_vw, tm_vw]
theorem rd0_v (a j : Int) (ha : a < tm_z μ) : tm_v (rd0 μ n) a j = if a = 4 ∧ j = 8 then tm_z μ else tm_v (rd3 μ n) a j := by
  have z3 : tm_z (rd3 μ n) = tm_z μ := rfl
  have e1 : tm_z (tm_a (rd3 μ n) 4 8) = tm_z μ + 1 := rfl
  have N : ∀ i : Int, ¬ (a = tm_z μ ∧ j = i) := fun i q => by omega
  unfold rd0 mkT
  rw [tm_vw, tm_vw, if_neg (N 7), tm_va]
  rw [show tm_z (tm_w (tm_w (tm_a (tm_w (tm_a (tm_a (rd3 μ n) 4 8) 26 8) (tm_z μ) 0 (tm_z (tm_a (rd3 μ n) 4 8))) 27 12) (tm_z μ) 1 (tm_z (tm_a (rd3 μ n) 4 8) + 1)) (tm_z μ) 4 1) = tm_z μ + 1 + 1 + 1 from rfl, if_neg (show ¬ a = tm_z μ + 1 + 1 + 1 by omega), tm_vw, if_neg (N 4), tm_vw, if_neg (N 1), tm_va]
  rw [show tm_z (tm_w (tm_a (tm_a (rd3 μ n) 4 8) 26 8) (tm_z μ) 0 (tm_z (tm_a (rd3 μ n) 4 8))) = tm_z μ + 1 + 1 from rfl, if_neg (show ¬ a = tm_z μ + 1 + 1 by omega), tm_vw, if_neg (N 0), tm_va, e1, if_neg (show ¬ a = tm_z μ + 1 by omega), tm_va, z3, if_neg (show ¬ a = tm_z μ by omega)]
theorem rd0_k (a : Int) : tm_k (rd0 μ n) a = if a = tm_z μ + 1 + 1 + 1 then 20 else if a = tm_z μ + 1 + 1 then 27 else if a = tm_z μ + 1 then 26 else if a = tm_z μ then 4 else tm_k μ a := by
  show tm_k (tm_a (tm_w (tm_w (tm_a (tm_w (tm_a (tm_a (rd3 μ n) 4 8) 26 8) (tm_z μ) 0 (tm_z (tm_a (rd3 μ n) 4 8))) 27 12) (tm_z μ) 1 (tm_z (tm_a (rd3 μ n) 4 8) + 1)) (tm_z μ) 4 1) 20 8) a = _
  rw [tm_ka]
  show (if a = tm_z μ + 1 + 1 + 1 then 20 else tm_k (tm_a (tm_w (tm_a (tm_a (rd3 μ n) 4 8) 26 8) (tm_z μ) 0 (tm_z (tm_a (rd3 μ n) 4 8))) 27 12) a) = _
  rw [tm_ka]
  show (if a = tm_z μ + 1 + 1 + 1 then 20 else if a = tm_z μ + 1 + 1 then 27 else tm_k (tm_a (tm_a (rd3 μ n) 4 8) 26 8) a) = _
  rw [tm_ka]
  show (if a = tm_z μ + 1 + 1 + 1 then 20 else if a = tm_z μ + 1 + 1 then 27 else if a = tm_z μ + 1 then 26 else tm_k (tm_a (rd3 μ n) 4 8) a) = _
  rw [tm_ka]
  rfl
theorem rd0_n (a : Int) : tm_n (rd0 μ n) a = if a = tm_z μ + 1 + 1 + 1 then 8 else if a = tm_z μ + 1 + 1 then 12 else if a = tm_z μ + 1 then 8 else if a = tm_z μ then 8 else tm_n μ a := by
  show tm_n (tm_a (tm_w (tm_w (tm_a (tm_w (tm_a (tm_a (rd3 μ n) 4 8) 26 8) (tm_z μ) 0 (tm_z (tm_a (rd3 μ n) 4 8))) 27 12) (tm_z μ) 1 (tm_z (tm_a (rd3 μ n) 4 8) + 1)) (tm_z μ) 4 1) 20 8) a = _
  rw [tm_na]
  show (if a = tm_z μ + 1 + 1 + 1 then 8 else tm_n (tm_a (tm_w (tm_a (tm_a (rd3 μ n) 4 8) 26 8) (tm_z μ) 0 (tm_z (tm_a (rd3 μ n) 4 8))) 27 12) a) = _
  rw [tm_na]
  show (if a = tm_z μ + 1 + 1 + 1 then 8 else if a = tm_z μ + 1 + 1 then 12 else tm_n (tm_a (tm_a (rd3 μ n) 4 8) 26 8) a) = _
  rw [tm_na]
  show (if a = tm_z μ + 1 + 1 + 1 then 8 else if a = tm_z μ + 1 + 1 then 12 else if a = tm_z μ + 1 then 8 else tm_n (tm_a (rd3 μ n) 4 8) a) = _
  rw [tm_na]
  rfl
theorem rd0_z : tm_z (rd0 μ n) = tm_z μ + 1 + 1 + 1 + 1 := rfl
theorem rd0_T (hz : 104 ≤ tm_z μ) (j : Int) : tm_v (rd0 μ n) (tm_z μ) j = if j = 7 then tm_z μ + 1 + 1 + 1 else if j = 4 then 1 else if j = 1 then tm_z μ + 1 + 1 else if j = 0 then tm_z μ + 1 else 0 := by
  have z3 : tm_z (rd3 μ n) = tm_z μ := rfl
  have e1 : tm_z (tm_a (rd3 μ n) 4 8) = tm_z μ + 1 := rfl
  unfold rd0 mkT
  rw [tm_vw, if_neg (fun q => by omega), tm_vw, tm_va]
  rw [show tm_z (tm_w (tm_w (tm_a (tm_w (tm_a (tm_a (rd3 μ n) 4 8) 26 8) (tm_z μ) 0 (tm_z (tm_a (rd3 μ n) 4 8))) 27 12) (tm_z μ) 1 (tm_z (tm_a (rd3 μ n) 4 8) + 1)) (tm_z μ) 4 1) = tm_z μ + 1 + 1 + 1 from rfl, if_neg (show ¬ tm_z μ = tm_z μ + 1 + 1 + 1 by omega), tm_vw, tm_vw, tm_va]
  rw [show tm_z (tm_w (tm_a (tm_a (rd3 μ n) 4 8) 26 8) (tm_z μ) 0 (tm_z (tm_a (rd3 μ n) 4 8))) = tm_z μ + 1 + 1 from rfl, if_neg (show ¬ tm_z μ = tm_z μ + 1 + 1 by omega), tm_vw, tm_va, e1, if_neg (show ¬ tm_z μ = tm_z μ + 1 by omega), tm_va, z3, if_pos rfl]
  simp only [true_and]
theorem rd0_J (hz : 104 ≤ tm_z μ) : JR (tm_z μ) tx (rd0 μ n) tn0 := by
  have hT := rd0_T (n := n) hz
  have e8 : rT (rd0 μ n) = tm_z μ := by
    unfold rT
    rw [rd0_v 4 8 (by omega), if_pos ⟨rfl, rfl⟩]
  have eP : rPA (rd0 μ n) = tm_z μ + 1 := by unfold rPA; rw [e8, hT]; rfl
  have eL : rLA (rd0 μ n) = tm_z μ + 1 + 1 := by unfold rLA; rw [e8, hT]; rfl
  have eF : rFA (rd0 μ n) = tm_z μ + 1 + 1 + 1 := by unfold rFA; rw [e8, hT]; rfl
  have Z : tm_z (rd0 μ n) = tm_z μ + 1 + 1 + 1 + 1 := rfl
  refine ⟨⟨?_, ?_, ?_, ?_⟩, ?_, ?_, fun k k0 k1 => ?_, fun l l0 l1 => ?_, fun k k' k0 k1 h0 h1 q => ?_, fun l l' l0 l1 h0 h1 q => ?_⟩
  · rw [e8]
    refine ⟨⟨Int.le_refl _, by rw [Z]; omega⟩, ?_⟩
    rw [rd0_k, if_neg (by omega), if_neg (by omega), if_neg (by omega), if_pos rfl]
  · rw [eP]
    refine ⟨⟨⟨by omega, by rw [Z]; omega⟩, ?_⟩, ?_⟩
    · rw [rd0_k, if_neg (by omega), if_neg (by omega), if_pos rfl]
    · rw [rd0_n, if_neg (by omega), if_neg (by omega), if_pos rfl]
  · rw [eL]
    refine ⟨⟨⟨by omega, by rw [Z]; omega⟩, ?_⟩, ?_⟩
    · rw [rd0_k, if_neg (by omega), if_pos rfl]
    · rw [rd0_n, if_neg (by omega), if_pos rfl]
  · rw [eF]
    refine ⟨⟨⟨by omega, by rw [Z]; omega⟩, ?_⟩, ?_⟩
    · rw [rd0_k, if_pos rfl]
    · rw [rd0_n, if_pos rfl]
  · rw [e8, hT, hT, hT, hT, hT]
    exact ⟨rfl, rfl, rfl, rfl, rfl⟩
  · rw [rd0_v 4 7 (by omega), if_neg (by decide), rd3_v, if_pos ⟨rfl, rfl⟩]
    rfl
  · have : k < 0 := k1
    omega
  · have : l < 0 := l1
    omega
  · have : k < 0 := k1
    omega
  · have : l < 0 := l1
    omega
theorem pX2_read (hd : 12 ≤ d) (hs : tS μ) (hB : ∀ k, -128 ≤ tm_v μ 5 k ∧ tm_v μ 5 k ≤ 127) (n0 : 0 ≤ n) (n5 : n ≤ 500) (hz : 104 ≤ tm_z μ) (ht : ∀ b, 0 ≤ b → b ≤ n → tok (c_tx μ) n b = tok tx n b) : tC mX2_read d 34 171 [(2, 4), (0, n)] μ (q_rd (tm_z μ) (rd0 μ n) (p_town tx n)) := by
  have e5 : ∀ j, tm_v (rd0 μ n) 5 j = tm_v μ 5 j := fun j => by rw [rd0_v 5 j (by omega), if_neg (by omega), rd3_v, if_neg (by omega), if_neg (by omega), if_neg (by omega)]
  have e42 : tm_v (rd0 μ n) 4 2 = n := by rw [rd0_v 4 2 (by omega), if_neg (by decide), rd3_v, if_neg (by decide), if_neg (by decide), if_pos ⟨rfl, rfl⟩]
  have e45 : tm_v (rd0 μ n) 4 5 = 0 := by rw [rd0_v 4 5 (by omega), if_neg (by decide), rd3_v, if_neg (by decide), if_pos ⟨rfl, rfl⟩]
  have etx : c_tx (rd0 μ n) = c_tx μ := by
    funext k
    unfold c_tx
    rw [e5]
  have hX : c_X (rd0 μ n) := ⟨fun k => by rw [e5]; exact hB k, by rw [e42]; exact ⟨n0, n5⟩⟩
  have hb : bR (tm_z μ) (rd0 μ n) tx := by
    refine ⟨hz, by rw [rd0_z]; omega, hX, ?_⟩
    rw [e42, etx]
    exact ht
  refine tC_of rfl (Nat.le_of_ble_eq_true rfl) (rX2_read_0 hs ?_)
  rintro m1 rfl
  have s1 : tS (tm_w μ 4 2 n) := tS_wj hs _ (by decide)
  refine ⟨s1, ?_⟩
  rintro m2 rfl
  have s2 : tS (tm_w (tm_w μ 4 2 n) 4 5 0) := tS_wj s1 _ (by decide)
  refine ⟨s2, ?_⟩
  rintro m3 rfl
  have s3 : tS (rd3 μ n) := tS_wj s2 _ (by decide)
  refine ⟨s3, ⟨by decide, by decide⟩, ?_⟩
  rintro m5 rfl
  have s5 : tS (tm_a (rd3 μ n) 4 8) := tS_a s3 _ _
  refine ⟨s5, by show 1 ≤ tm_z μ; omega, ?_⟩
  refine rcl_of (d' := d - 1) (pX4_init s5 (x := tm_z μ) (by omega) (by show tm_z μ < tm_z μ + 1; omega) (by show tm_k (tm_a (rd3 μ n) 4 8) (tm_z μ) = 4; rw [tm_ka, if_pos (show tm_z μ = tm_z (rd3 μ n) from rfl)]) (tfr_z hz)) (by omega) (by decide) (by decide) (fun o m7 q => ?_)
  obtain ⟨rfl, rfl⟩ := q
  have s7 : tS (mkT (tm_a (rd3 μ n) 4 8) (tm_z μ)) := by
    unfold mkT
    exact tS_w (tS_a (tS_w (tS_w (tS_a (tS_w (tS_a s5 _ _) (tfr_z hz) _ _) _ _) (tfr_z hz) _ _) (tfr_z hz) _ _) _ _) (tfr_z hz) _ _
  refine Or.inl ⟨rfl, s7, ?_⟩
  rintro m8 rfl
  have s8 : tS (rd0 μ n) := tS_wj s7 _ (by decide)
  refine ⟨s8, ?_⟩
  refine rcl_of (d' := d - 1) (pX2_next (μ := rd0 μ n) (by omega) s8 hX (by rw [e45, e42]; omega)) (by omega) (by decide) (by decide) (fun o m9 q => ?_)
  obtain ⟨rfl, f9, C9⟩ := q
  rw [e45, e42, etx, ht 0 (by omega) n0] at C9
  have G9 : gR (tm_z μ) (rd0 μ n) m9 := (gR.rf s8).fr f9 wRd_r
  have R9 : RS (tm_z μ) (rd0 μ n) m9 tn0 (tok tx n 0) := ⟨G9, JR_F hz (rd0_J hz) f9 wRd_RC, C9⟩
  have k9 : okK (rd0 μ n) (tok tx n 0) := by
    have := okK_tok (β := rd0 μ n) (b := 0) (by omega) (by rw [e42]; exact n0)
    rw [etx, e42, ht 0 (by omega) n0] at this
    exact this
  refine Or.inl ⟨rfl, f9.S, ?_⟩
  have := read_loop (d := d) hd hb (n + 1).toNat tn0 (tok tx n 0) m9 4 36 R9 k9 wf_tn0 ⟨Or.inl rfl, Or.inl rfl, Or.inl rfl⟩ (fun _ => by rw [e42]; have := k9.2.2; omega) (by decide) (by decide)
  rw [e42] at this
  exact this
end C0RA
