/-! the reader's memory as it grows; CONTRACT of the component: a lane is read -/
section GR
variable {tx : Int → Int} {z : Int} {β m m' : tm_M} {W : Int → Int → Prop} {s : TN} {t : TK}
abbrev wRr : Int → Int → Prop := tWs [] [(4, 3), (4, 4), (4, 5), (4, 6), (4, 7), (3, 6), (3, 7)]
/-- what is older than z stays, but the reader's own fields -/
def gR (z : Int) (β m : tm_M) : Prop := tS m ∧ tm_z β ≤ tm_z m ∧ (∀ x, x < z → tm_k m x = tm_k β x ∧ tm_n m x = tm_n β x) ∧ ∀ x j, x < z → ¬ wRr x j → tm_v m x j = tm_v β x j
theorem gR.rf (hs : tS m) : gR z m m := ⟨hs, Int.le_refl _, fun _ _ => ⟨rfl, rfl⟩, fun _ _ _ _ => rfl⟩
theorem gR.fr (h : gR z β m) (f : tFr W m m') (hW : ∀ a j, W a j → wRr a j) : gR z β m' :=
  ⟨f.S, by rw [f.z]; exact h.2.1, fun x hx => by rw [f.k, f.n]; exact h.2.2.1 x hx, fun x j hx hw => by rw [f.v (fun q => hw (hW _ _ q))]; exact h.2.2.2 x j hx hw⟩
theorem gR.a (h : gR z β m) (hz : z ≤ tm_z β) (k : Nat) (n : Int) : gR z β (tm_a m k n) := by
  have := h.2.1
  refine ⟨tS_a h.1 _ _, ?_, fun x hx => ?_, fun x j hx hw => ?_⟩
  · show tm_z β ≤ tm_z m + 1; omega
  · rw [tm_ka, tm_na, if_neg (by omega), if_neg (by omega)]; exact h.2.2.1 x hx
  · rw [tm_va, if_neg (by omega)]; exact h.2.2.2 x j hx hw
theorem tfr_z {x : Int} (h : 104 ≤ x) : tfr x := by unfold tfr; omega
theorem gR.w (h : gR z β m) (hz : 104 ≤ z) {x : Int} (hx : z ≤ x) (j v : Int) : gR z β (tm_w m x j v) := by
  refine ⟨tS_w h.1 (tfr_z (by omega)) _ _, h.2.1, h.2.2.1, fun y i hy hw => ?_⟩
  rw [tm_vw, if_neg (by omega)]; exact h.2.2.2 y i hy hw
theorem gR.w7 (h : gR z β m) (v : Int) : gR z β (tm_w m 4 7 v) := by
  refine ⟨tS_wj h.1 _ (by decide), h.2.1, h.2.2.1, fun y i hy hw => ?_⟩
  have : ¬ (y = 4 ∧ i = 7) := by rintro ⟨rfl, rfl⟩; exact hw (tWs_inF rfl)
  rw [tm_vw, if_neg this]; exact h.2.2.2 y i hy hw
/-- where a reading starts -/
def bR (z : Int) (β : tm_M) (tx : Int → Int) : Prop := 104 ≤ z ∧ z ≤ tm_z β ∧ c_X β ∧ ∀ b, 0 ≤ b → b ≤ tm_v β 4 2 → tok (c_tx β) (tm_v β 4 2) b = tok tx (tm_v β 4 2) b
theorem gR.n (h : gR z β m) (hb : bR z β tx) : tm_v m 4 2 = tm_v β 4 2 := h.2.2.2 4 2 (by have := hb.1; omega) (tWs_noF rfl)
theorem gR.tt (h : gR z β m) (hb : bR z β tx) : c_tx m = c_tx β := by
  funext k
  unfold c_tx
  rw [h.2.2.2 5 k (by have := hb.1; omega) (tWs_no _ rfl)]
theorem gR.X (h : gR z β m) (hb : bR z β tx) : c_X m := by
  refine ⟨fun k => ?_, ?_⟩
  · rw [h.2.2.2 5 k (by have := hb.1; omega) (tWs_no _ rfl)]; exact hb.2.2.1.1 k
  · rw [h.n hb]; exact hb.2.2.1.2
/-- a token of the text -/
def okK (β : tm_M) (t : TK) : Prop := okT t ∧ wrdT (c_tx β) t ∧ 0 ≤ kfr t ∧ kfr t ≤ ken t ∧ ken t ≤ tm_v β 4 2
abbrev nxt (tx : Int → Int) (β : tm_M) (t : TK) : TK := tok tx (tm_v β 4 2) (ken t)
theorem okK_tok {b : Int} (h0 : 0 ≤ b) (h1 : b ≤ tm_v β 4 2) : okK β (tok (c_tx β) (tm_v β 4 2) b) := by
  have := tok_in (tx := c_tx β) h1
  exact ⟨tok_so _ _ _, tok_word _ _ _, by omega, this.2.1, this.2.2.1⟩
theorem okK.n (h : okK β t) (hb : bR z β tx) : okK β (nxt tx β t) := by
  have h0 : 0 ≤ ken t := by have := h.2.2; omega
  have := okK_tok (β := β) h0 h.2.2.2.2
  rw [hb.2.2.2 _ h0 h.2.2.2.2] at this
  exact this
/-- the reader stands at t, and has read s -/
def RS (z : Int) (β m : tm_M) (s : TN) (t : TK) : Prop := gR z β m ∧ JR z (c_tx β) m s ∧ hasC m t
theorem wRd_r : ∀ a j, wRd a j → wRr a j := tWs_sub rfl
theorem wRx_r : ∀ a j, wRx a j → wRr a j := tWs_sub rfl
theorem RS.S (h : RS z β m s t) : tS m := h.1.1
theorem RS.d (hb : bR z β tx) (h : RS z β m s t) (f : tFr wRd m m') {t' : TK} (ht : hasC m' t') : RS z β m' s t' := ⟨h.1.fr f wRd_r, JR_F hb.1 h.2.1 f wRd_RC, ht⟩
theorem rP_F (hb : bR z β tx) (h : RS z β m s t) (f : tFr wRd m m') (k : Int) : rP m' k = rP m k := by
  have V : ∀ {x : Int} {k : Nat}, nw z m x k → ∀ j, tm_v m' x j = tm_v m x j := fun h j => f.v (wRd_RC.1 _ j (by have := h.1.1; have := hb.1; omega))
  have eT : rT m' = rT m := f.v wRd_RC.2.2
  have ePA : rPA m' = rPA m := by unfold rPA; rw [eT, V h.2.1.1.1]
  unfold rP
  rw [ePA, V h.2.1.1.2.1.1]
/-- an error, or a town and the token behind it -/
def q_er (z : Int) (β : tm_M) (e : Int × Int) : tQ := fun o m => o = .inr 3 ∧ gR z β m ∧ tm_v m 3 6 = e.1 ∧ tm_v m 3 7 = e.2
def q_ex (z : Int) (β : tm_M) (r : EX (TN × TK)) : tQ := fun o m => match r with
  | .error e => q_er z β e o m
  | .ok q => o = .inl none ∧ RS z β m q.1 q.2 ∧ okK β q.2
theorem isE.r {e : Int × Int} {o : tOc} (h : gR z β m) (q : isE m e o m') : q_er z β e o m' := ⟨q.1, h.fr q.2.1 wRx_r, q.2.2.1, q.2.2.2⟩
end GR
section GRC
variable {tx : Int → Int} {d mc ms nc ns : Nat} {z : Int} {β m : tm_M} {s : TN} {t : TK}
theorem r_next {A : tm_M → Nat → Nat → Prop} {B : Int → tm_M → Nat → Nat → Prop} (hb : bR z β tx) (h : RS z β m s t) (hk : okK β t) (hd : 2 ≤ d) (h1 : nc ≤ mc) (h2 : ns ≤ ms) (hA : ∀ m', RS z β m' s (nxt tx β t) → tFr wRd m m' → A m' nc ns) :
    rcl mX2_next [(2, 4)] m d mc ms nc ns (fun o μ1 nc1 ns1 => rkV o (A μ1 nc1 ns1) (fun a => B a μ1 nc1 ns1)) := by
  refine rcl_of (d' := d - 1) (pX2_next (by omega) h.S (h.1.X hb) ?_) (by omega) h1 h2 (fun o m' q => ?_)
  · rw [h.2.2.2.2.1, h.1.n hb]
    have := hk.2.2
    omega
  · obtain ⟨rfl, q1, q2⟩ := q
    rw [h.2.2.2.2.1, h.1.n hb, h.1.tt hb, hb.2.2.2 _ (by have := hk.2.2; omega) hk.2.2.2.2] at q2
    exact Or.inl ⟨rfl, hA m' (h.d hb q1 q2) q1⟩
theorem r_key {A : Int → tm_M → Nat → Nat → Prop} {B : Int → tm_M → Nat → Nat → Prop} (hb : bR z β tx) (h : RS z β m s t) (hk : okK β t) (hd : 6 ≤ d) (h1 : nc ≤ mc) (h2 : ns ≤ ms) (hA : A (kyT t) m nc ns) :
    rcl mX2_key [(2, 4)] m d mc ms nc ns (fun o μ1 nc1 ns1 => rk 0 o (fun r => A r μ1 nc1 ns1) (fun a => B a μ1 nc1 ns1)) :=
  r_q (d' := d - 1) (pX2_key (by omega) h.S (h.1.X hb) h.2.2 hk.1 (by rw [h.1.tt hb]; exact hk.2.1) hk.2.2.1 hk.2.2.2.1 (by rw [h.1.n hb]; exact hk.2.2.2.2)) (by omega) h1 h2 hA
theorem r_need1 {A : tm_M → Nat → Nat → Prop} {B : Int → tm_M → Nat → Nat → Prop} (hs : tS m) (hd : 3 ≤ d) (h1 : nc ≤ mc) (h2 : ns ≤ ms) (hA : A m nc ns) :
    rcl mX2_need [(2, 4), (0, 1)] m d mc ms nc ns (fun o μ1 nc1 ns1 => rkV o (A μ1 nc1 ns1) (fun a => B a μ1 nc1 ns1)) := by
  refine rcl_of (d' := d - 1) (pX2_need (by omega) hs) (by omega) h1 h2 (fun o m' q => ?_)
  rcases q with ⟨-, rfl, rfl⟩ | ⟨q, -⟩
  · exact Or.inl ⟨rfl, hA⟩
  · exact absurd q (by decide)
theorem r_need0 {M : tM} {L : tLs} {pc : Nat} {Q : tQ} {A : tm_M → Nat → Nat → Prop} (h : RS z β m s t) (hk : okK β t) (hd : 3 ≤ d) (h1 : nc ≤ mc) (h2 : ns ≤ ms) (hh : ∀ x ∈ M.2.2.2.2, ¬ (x.1 ≤ pc ∧ pc < x.2.1)) (hq : ∀ o m', q_er z β (wrg t) o m' → Q o m') :
    rcl mX2_need [(2, 4), (0, 0)] m d mc ms nc ns (fun o μ1 nc1 ns1 => rkV o (A μ1 nc1 ns1) (fun a => tT M d mc ms (tq Q mc ms) pc L a μ1 nc1 ns1)) := by
  refine rcl_of (d' := d - 1) (pX2_need (by omega) h.S) (by omega) h1 h2 (fun o m' q => ?_)
  rcases q with ⟨q, -⟩ | ⟨-, rfl, rfl⟩
  · exact absurd rfl q
  · exact Or.inr ⟨3, rfl, t_leave hh h1 h2 (hq _ _ ((isE_2 h.S h.2.2 hk.1).r h.1))⟩
theorem r_failk {M : tM} {L : tLs} {pc pc2 : Nat} {Q : tQ} {k : Int} (h : RS z β m s t) (hk : okK β t) (h4 : kso t ≠ 4) (hd : 2 ≤ d) (h1 : nc ≤ mc) (h2 : ns ≤ ms) (hh : ∀ x ∈ M.2.2.2.2, ¬ (x.1 ≤ pc ∧ pc < x.2.1)) (hq : ∀ o m', q_er z β (k, kfr t) o m' → Q o m') :
    rcl mX2_fail [(2, 4), (0, k)] m d mc ms nc ns (fun o μ1 nc1 ns1 => rk 2 o (fun r => tS μ1 ∧ ((1 ≤ r ∧ tm_k μ1 r = 1) ∧ (tT M d mc ms (tq Q mc ms) pc L r μ1 nc1 ns1))) (fun a => tT M d mc ms (tq Q mc ms) pc2 L a μ1 nc1 ns1)) :=
  r_fail hd h.S h1 h2 hh (hq _ _ ((isE_k h.S h.2.2 hk.1 h4).r h.1))
theorem p_free_ok {a p : Int} (h : p_free s t a = .ok p) (hp : 0 ≤ n_p s) : (0 ≤ p ∧ p < n_p s) ∧ p ≠ a ∧ n_d s p ≠ 4 := by
  unfold p_free at h
  split at h
  · cases h
  · split at h
    · cases h
    · rename_i c
      split at h
      · cases h
      · split at h
        · cases h
        · rename_i c1 c2
          have key : p = p_nm s (kva t) := by
            by_cases e : 0 ≤ a ∧ dup s a (p_nm s (kva t))
            · rw [if_pos e] at h; cases h
            · rw [if_neg e] at h; cases h; rfl
          subst key
          refine ⟨⟨by omega, ?_⟩, fun q => c1 q.symm, c2⟩
          have := fdn_spec (c := fun p => n_m s p = kva t) (e := -1) (n_p s).toNat 0
          unfold p_nm at c ⊢
          rcases this with z1 | z1 <;> omega
theorem r_free {M : tM} {L : tLs} {pc : Nat} {Q : tQ} {a : Int} {A : Int → tm_M → Nat → Nat → Prop} (hb : bR z β tx) (h : RS z β m s t) (hk : okK β t) (hw : wfT s) (ha : a = -1 ∨ (0 ≤ a ∧ a < n_p s)) (hd : 9 ≤ d) (h1 : nc ≤ mc) (h2 : ns ≤ ms) (hh : ∀ x ∈ M.2.2.2.2, ¬ (x.1 ≤ pc ∧ pc < x.2.1))
    (hA : ∀ p, p_free s t a = .ok p → A (rP m p) m nc ns) (hq : ∀ e, p_free s t a = .error e → ∀ o m', q_er z β e o m' → Q o m') :
    rcl mX2_free [(2, 4), (2, if a < 0 then 0 else rP m a)] m d mc ms nc ns (fun o μ1 nc1 ns1 => rk 2 o (fun r => A r μ1 nc1 ns1) (fun a => tT M d mc ms (tq Q mc ms) pc L a μ1 nc1 ns1)) := by
  refine rcl_of (d' := d - 1) (pX2_free (by omega) h.S (h.1.X hb) h.2.2 hk.1 (by rw [h.1.tt hb]; exact hk.2.1) hk.2.2.1 hk.2.2.2.1 (by rw [h.1.n hb]; exact hk.2.2.2.2) hb.1 (by rw [h.1.tt hb]; exact h.2.1) hw ha) (by omega) h1 h2 (fun o m' q => ?_)
  cases e : p_free s t a with
  | error e' =>
    rw [e] at q
    have q : isE m e' o m' := q
    refine Or.inr ⟨3, q.1, t_leave hh h1 h2 (hq _ e _ _ ?_)⟩
    have := q.r h.1
    rw [q.1] at this
    exact this
  | ok p =>
    rw [e] at q
    obtain ⟨q1, rfl⟩ := q
    exact Or.inl ⟨_, q1, hA p e⟩
theorem ky_8 : kyT t = 8 ↔ isW t 655 := by
  unfold kyT kyW isW
  constructor
  · intro h
    split at h
    · rename_i c
      refine ⟨c, ?_⟩
      repeat' split at h
      all_goals omega
    · omega
  · rintro ⟨c, e⟩
    rw [if_pos c, e]
    decide
end GRC
section LY
variable {z a b : Int} {m : tm_M} {s : TN}
theorem lay1_v (x j : Int) (hx : x ≠ tm_z m) : tm_v (lay1 m a b) x j = tm_v m x j := by
  unfold lay1
  rw [tm_vw, if_neg (fun q => hx q.1), tm_vw, if_neg (fun q => hx q.1), tm_va, if_neg hx]
theorem lay2_v (x j : Int) (hx : x ≠ tm_z m) : tm_v (lay2 m s a b) x j = if x = rP m a ∧ j = 5 then n_d s a + 1 else if x = rA m a ∧ j = n_d s a then tm_z m else tm_v m x j := by
  unfold lay2
  rw [tm_vw, tm_vw, lay1_v x j hx]
theorem lay3_v (x j : Int) (hx : x ≠ tm_z m) : tm_v (lay3 m s a b) x j = if x = rP m b ∧ j = 5 then n_d s b + 1 else if x = rA m b ∧ j = n_d s b then tm_z m else tm_v (lay2 m s a b) x j := by
  unfold lay3
  rw [tm_vw, tm_vw]
theorem lay1_k (x : Int) (hx : x ≠ tm_z m) : tm_k (lay1 m a b) x = tm_k m x := by
  show tm_k (tm_a m 8 3) x = _
  rw [tm_ka, if_neg hx]
theorem lay1_n (x : Int) (hx : x ≠ tm_z m) : tm_n (lay1 m a b) x = tm_n m x := by
  show tm_n (tm_a m 8 3) x = _
  rw [tm_na, if_neg hx]
theorem lay1_kz : tm_k (lay1 m a b) (tm_z m) = 8 := by
  show tm_k (tm_a m 8 3) _ = _
  rw [tm_ka, if_pos rfl]
end LY
section C0AL
variable {tx : Int → Int} {d : Nat} {z : Int} {β μ : tm_M} {s : TN} {t : TK}
/-- a lane, but the sign behind it -/
noncomputable def x_ln (tx : Int → Int) (n : Int) (s : TN) (t : TK) : EX (TN × TK) := match p_free s t (-1) with
  | .error e => .error e
  | .ok a => if ¬ isW (tok tx n (ken t)) 655 then .error (wrg (tok tx n (ken t))) else match p_free s (tok tx n (ken (tok tx n (ken t)))) a with
    | .error e => .error e
    | .ok b => .ok (n_lay s a b, tok tx n (ken (tok tx n (ken (tok tx n (ken t))))))
def xe (tx : Int → Int) (n : Int) (r : EX (TN × TK)) : EX (TN × TK) := match r with
  | .error e => .error e
  | .ok q => p_end tx n q.1 q.2
theorem ln1_x {n : Int} (hp : 0 ≤ n_p s) : p_ln1 tx n s t = xe tx n (x_ln tx n s t) := by
  rw [ln1_free]
  unfold x_ln
  cases e : p_free s t (-1) with
  | error e' => rfl
  | ok a =>
    show p_ln2 tx n s a (tok tx n (ken t)) = xe tx n (if ¬ isW (tok tx n (ken t)) 655 then .error (wrg (tok tx n (ken t))) else match p_free s (tok tx n (ken (tok tx n (ken t)))) a with
      | .error e => .error e
      | .ok b => .ok (n_lay s a b, tok tx n (ken (tok tx n (ken (tok tx n (ken t)))))))
    unfold p_ln2
    by_cases c : ¬ isW (tok tx n (ken t)) 655
    · rw [if_pos c, if_pos c]; rfl
    · rw [if_neg c, if_neg c, ln3_free (p_free_ok e hp).1.1]
      cases p_free s (tok tx n (ken (tok tx n (ken t)))) a <;> rfl
theorem pX2_aLane (hd : 10 ≤ d) (hb : bR z β tx) (h : RS z β μ s t) (hk : okK β t) (hw : wfT s) (h12 : n_l s ≠ 12) : tC mX2_aLane d 1 3 [(2, 4)] μ (q_ex z β (x_ln tx (tm_v β 4 2) s t)) := by
  have hp8 := hw.1.1
  have hl12 := hw.1.2
  have hh : ∀ (pc : Nat), ∀ x ∈ mX2_aLane.2.2.2.2, ¬ (x.1 ≤ pc ∧ pc < x.2.1) := fun pc x hx => by cases hx
  refine tC_of rfl (Nat.le_of_ble_eq_true rfl) (rX2_aLane_0 h.S ?_)
  refine r_free (a := -1) hb h hk hw (Or.inl rfl) (by omega) (Nat.zero_le _) (Nat.zero_le _) (hh _) (fun a ea => ⟨h.S, ?_⟩) (fun e ee o m' q => ?_)
  · obtain ⟨⟨a0, a1⟩, -, a4⟩ := p_free_ok ea hp8.1
    refine r_next hb h hk (by omega) (Nat.zero_le _) (Nat.zero_le _) (fun m2 R2 f2 => ⟨R2.S, ?_⟩)
    have k2 := hk.n hb
    refine r_key hb R2 k2 (by omega) (Nat.zero_le _) (Nat.zero_le _) ⟨R2.S, fun c => ?_, fun c => ?_⟩
    · refine r_need0 R2 k2 (by omega) (Nat.zero_le _) (Nat.zero_le _) (hh _) (fun o m' q => ?_)
      have hx : x_ln tx (tm_v β 4 2) s t = .error (wrg (nxt tx β t)) := by
        unfold x_ln
        rw [ea]
        show (if _ then _ else _) = _
        rw [if_pos (fun q => c (ky_8.mpr q))]
      rw [hx]
      exact q
    · refine r_need1 R2.S (by omega) (Nat.zero_le _) (Nat.zero_le _) ⟨R2.S, ?_⟩
      refine r_next hb R2 k2 (by omega) (Nat.zero_le _) (Nat.zero_le _) (fun m3 R3 f3 => ⟨R3.S, ?_⟩)
      have k3 := k2.n hb
      have f23 : tFr wRd μ m3 := f2.tr f3 (fun _ _ q => q)
      have eP3 : rP m3 a = rP μ a := rP_F hb h f23 a
      have hx1 : x_ln tx (tm_v β 4 2) s t = match p_free s (nxt tx β (nxt tx β t)) a with
          | .error e => .error e
          | .ok b => .ok (n_lay s a b, nxt tx β (nxt tx β (nxt tx β t))) := by
        unfold x_ln
        rw [ea]
        show (if _ then _ else _) = _
        rw [if_neg (fun q => q (ky_8.mp c))]
      have e2 : (rP μ a) = if a < 0 then 0 else rP m3 a := by rw [if_neg (by omega), eP3]
      rw [e2]
      refine r_free (a := a) hb R3 k3 hw (Or.inr ⟨a0, a1⟩) (by omega) (Nat.zero_le _) (Nat.zero_le _) (hh _) (fun b eb => ⟨R3.S, ?_⟩) (fun e ee o m' q => ?_)
      · obtain ⟨⟨b0, b1⟩, bne, b4⟩ := p_free_ok eb hp8.1
        rw [eb] at hx1
        refine r_next hb R3 k3 (by omega) (Nat.zero_le _) (Nat.zero_le _) (fun m R f => ⟨R.S, ⟨Nat.le_refl _, Nat.le_refl _⟩, ?_⟩)
        have eA : (if a < 0 then 0 else rP m3 a) = rP m a := by rw [if_neg (by omega), rP_F hb R3 f]
        have eB : rP m3 b = rP m b := (rP_F hb R3 f b).symm
        rw [eA, eB]
        rw [hx1]
        have hJ := R.2.1
        obtain ⟨⟨t1, t2, t3, t4⟩, u, v, P, L, iA, iL⟩ := id hJ
        obtain ⟨pa1, pa2, pa3, pa4, pa5, pa6⟩ := P a a0 a1
        obtain ⟨pb1, pb2, pb3, pb4, pb5, pb6⟩ := P b b0 b1
        have z104 := hb.1
        have hzm : z ≤ tm_z m := by have := hb.2.1; have := R.1.2.1; omega
        have lt : ∀ {x : Int} {k : Nat}, nw z m x k → x ≠ tm_z m := fun h => by have := h.1.2; omega
        have fr : ∀ {x : Int} {k : Nat}, nw z m x k → tfr x := fun h => tfr_z (by have := h.1.1; omega)
        have ge : ∀ {x : Int} {k : Nat}, nw z m x k → 1 ≤ x := fun h => by have := h.1.1; omega
        have gz : ∀ {x : Int} {k : Nat}, nw z m x k → z ≤ x := fun h => h.1.1
        have h4 : (4 : Int) ≠ tm_z m := by omega
        have dne : rP m b ≠ rP m a := fun q => bne (hJ.inj b0 b1 a0 a1 q)
        have ane : rA m b ≠ rA m a := fun q => bne (iA b a b0 b1 a0 a1 q)
        have hda := (hw.2.1 a a0 a1).1
        have hdb := (hw.2.1 b b0 b1).1
        rintro m11 rfl
        have G0 : gR z β (tm_a m 8 3) := R.1.a hb.2.1 8 3
        have G1 : gR z β (lay1 m a b) := ((G0.w z104 hzm 0 (rP m a)).w z104 hzm 1 (rP m b))
        refine ⟨G0.1, by omega, ?_⟩
        refine rcl_of (d' := d - 1) (pX8_init G0.1 (x := tm_z m) (by omega) (by rw [tm_ka, if_pos rfl]) (tfr_z (by omega))) (by omega) (Nat.le_refl _) (Nat.le_refl _) (fun o m13 q => ?_)
        obtain ⟨rfl, q⟩ := q
        have q : m13 = lay1 m a b := q
        subst q
        refine Or.inl ⟨rfl, G1.1, ?_⟩
        rintro x14 rfl
        refine ⟨⟨ge pa1, by rw [lay1_k _ (lt pa1)]; exact pa1.2⟩, ?_⟩
        have va6 : tm_v (lay1 m a b) (rP m a) 6 = rA m a := lay1_v _ _ (lt pa1)
        have va5 : tm_v (lay1 m a b) (rP m a) 5 = n_d s a := by rw [lay1_v _ _ (lt pa1)]; exact pa4.2.2.2
        refine rcl_of (d' := d - 1) (pX7_add G1.1 (x := rP m a) (l := tm_z m) (ge pa1) (by rw [lay1_k _ (lt pa1)]; exact pa1.2) (fr pa1) (by rw [va6, lay1_k _ (lt pa5.1)]; exact ⟨ge pa5.1, pa5.1.2⟩) (by rw [va6]; exact fr pa5.1) (by rw [va6]; exact pa5.1.ne pa1 (by decide)) (by rw [va6, lay1_n _ (lt pa5.1)]; exact pa5.2.1) (by rw [va5]; omega) ⟨by omega, lay1_kz (a := a) (b := b)⟩) (by omega) (Nat.le_refl _) (Nat.le_refl _) (fun o m16 q => ?_)
        obtain ⟨rfl, q⟩ := q
        rw [va6, va5] at q
        have q : m16 = lay2 m s a b := q
        subst q
        have G2 : gR z β (lay2 m s a b) := ((G1.w z104 (gz pa5.1) _ _).w z104 (gz pa1) _ _)
        have lay2_k : ∀ x, tm_k (lay2 m s a b) x = tm_k (lay1 m a b) x := fun _ => rfl
        have lay2_n : ∀ x, tm_n (lay2 m s a b) x = tm_n (lay1 m a b) x := fun _ => rfl
        have vb6 : tm_v (lay2 m s a b) (rP m b) 6 = rA m b := by
          rw [lay2_v _ _ (lt pb1), if_neg (fun q => dne q.1), if_neg (fun q => pb1.ne pa5.1 (by decide) q.1)]; rfl
        have vb5 : tm_v (lay2 m s a b) (rP m b) 5 = n_d s b := by
          rw [lay2_v _ _ (lt pb1), if_neg (fun q => dne q.1), if_neg (fun q => pb1.ne pa5.1 (by decide) q.1)]; exact pb4.2.2.2
        refine Or.inl ⟨rfl, G2.1, ⟨ge pb1, by rw [lay2_k, lay1_k _ (lt pb1)]; exact pb1.2⟩, ?_⟩
        refine rcl_of (d' := d - 1) (pX7_add G2.1 (x := rP m b) (l := tm_z m) (ge pb1) (by rw [lay2_k, lay1_k _ (lt pb1)]; exact pb1.2) (fr pb1) (by rw [vb6, lay2_k, lay1_k _ (lt pb5.1)]; exact ⟨ge pb5.1, pb5.1.2⟩) (by rw [vb6]; exact fr pb5.1) (by rw [vb6]; exact pb5.1.ne pb1 (by decide)) (by rw [vb6, lay2_n, lay1_n _ (lt pb5.1)]; exact pb5.2.1) (by rw [vb5]; omega) ⟨by omega, lay1_kz (a := a) (b := b)⟩) (by omega) (Nat.le_refl _) (Nat.le_refl _) (fun o m18 q => ?_)
        obtain ⟨rfl, q⟩ := q
        rw [vb6, vb5] at q
        have q : m18 = lay3 m s a b := q
        subst q
        have G3 : gR z β (lay3 m s a b) := ((G2.w z104 (gz pb5.1) _ _).w z104 (gz pb1) _ _)
        have lay3_k : ∀ x, tm_k (lay3 m s a b) x = tm_k (lay1 m a b) x := fun _ => rfl
        have lay3_n : ∀ x, tm_n (lay3 m s a b) x = tm_n (lay1 m a b) x := fun _ => rfl
        have W3 : ∀ x j, x ≠ tm_z m → x ≠ rP m b → x ≠ rP m a → x ≠ rA m b → x ≠ rA m a → tm_v (lay3 m s a b) x j = tm_v m x j := by
          intro x j h1 h2 h3 h4 h5
          rw [lay3_v _ _ h1, if_neg (fun q => h2 q.1), if_neg (fun q => h4 q.1), lay2_v _ _ h1, if_neg (fun q => h3 q.1), if_neg (fun q => h5 q.1)]
        have n4 : ∀ {x : Int} {k : Nat}, nw z m x k → (4 : Int) ≠ x := fun h => by have := h.1.1; omega
        have w4 : tm_v (lay3 m s a b) 4 8 = rT m := W3 4 8 h4 (n4 pb1) (n4 pa1) (n4 pb5.1) (n4 pa5.1)
        have wT : ∀ j, tm_v (lay3 m s a b) (rT m) j = tm_v m (rT m) j := fun j => W3 _ j (lt t1) (t1.ne pb1 (by decide)) (t1.ne pa1 (by decide)) (t1.ne pb5.1 (by decide)) (t1.ne pa5.1 (by decide))
        have w1 : tm_v (lay3 m s a b) (rT m) 1 = rLA m := wT 1
        have w3 : tm_v (lay3 m s a b) (rT m) 3 = n_l s := by rw [wT]; exact u.2.1
        refine Or.inl ⟨rfl, G3.1, ?_⟩
        rw [w4, w1, w3]
        refine ⟨⟨ge t1, by rw [lay3_k, lay1_k _ (lt t1)]; exact t1.2⟩, ⟨ge t3.1, by rw [lay3_k, lay1_k _ (lt t3.1)]; exact t3.1.2⟩, ⟨by omega, by rw [lay3_n, lay1_n _ (lt t3.1), t3.2]; omega⟩, ⟨by omega, lay1_kz (a := a) (b := b)⟩, ?_⟩
        rintro m23 rfl
        have G4 := G3.w z104 (gz t3.1) (n_l s) (tm_z m)
        have e48 : tm_v (tm_w (lay3 m s a b) (rLA m) (n_l s) (tm_z m)) 4 8 = rT m := by rw [tm_vw, if_neg (fun q => n4 t3.1 q.1)]; exact w4
        have e43 : tm_v (tm_w (lay3 m s a b) (rLA m) (n_l s) (tm_z m)) (rT m) 3 = n_l s := by rw [tm_vw, if_neg (fun q => t1.ne t3.1 (by decide) q.1)]; exact w3
        rw [e48, e43, w32_id (x := n_l s + 1) (by omega) (by omega)]
        refine ⟨G4.1, ⟨ge t1, by show tm_k (lay3 m s a b) _ = 4; rw [lay3_k, lay1_k _ (lt t1)]; exact t1.2⟩, ?_⟩
        rintro m25 rfl
        have G5 : gR z β (lay4m m s a b) := G4.w z104 (gz t1) 3 (n_l s + 1)
        refine ⟨G5.1, ⟨Nat.le_refl _, Nat.le_refl _⟩, rfl, ⟨G5, JR_lay z104 hJ hw hzm a0 a1 b0 b1 bne.symm a4 b4, ?_⟩, k3.n hb⟩
        have V4 : ∀ j, tm_v (lay4m m s a b) 4 j = tm_v m 4 j := by
          intro j
          rw [lay_v 4 j h4, if_neg (fun q => n4 t1 q.1), if_neg (fun q => n4 t3.1 q.1), if_neg (fun q => n4 pb1 q.1), if_neg (fun q => n4 pb5.1 q.1), if_neg (fun q => n4 pa1 q.1), if_neg (fun q => n4 pa5.1 q.1)]
        have hC := R.2.2
        unfold hasC at hC ⊢
        show tm_v (lay4m m s a b) 4 3 = _ ∧ tm_v (lay4m m s a b) 4 4 = _ ∧ tm_v (lay4m m s a b) 4 5 = _ ∧ (_ → tm_v (lay4m m s a b) 4 6 = _)
        rw [V4, V4, V4, V4]
        exact hC
      · rw [hx1, ee]
        exact q
  · have hx : x_ln tx (tm_v β 4 2) s t = .error e := by unfold x_ln; rw [ee]
    rw [hx]
    exact q
end C0AL
