/-! CONTRACT of the component: a town is taken from the tape -/
section C0TW
variable {tx : Int → Int} {d : Nat} {v : Int} {μ m m' : tm_M}
abbrev wTw : Int → Int → Prop := tWs [] [(4, 1), (4, 2), (4, 3), (4, 4), (4, 5), (4, 6), (4, 7), (4, 8), (3, 6), (3, 7), (1, 8), (1, 10), (1, 11), (1, 12), (1, 13)]
/-- the memory grows, and of the old changes only W -/
def gT (W : Int → Int → Prop) (μ m : tm_M) : Prop := tS m ∧ tm_z μ ≤ tm_z m ∧ ∀ x, x < tm_z μ → tm_k m x = tm_k μ x ∧ tm_n m x = tm_n μ x ∧ ∀ j, ¬ W x j → tm_v m x j = tm_v μ x j
theorem gT.fr {W W' : Int → Int → Prop} (h : gT W μ m) (f : tFr W' m m') (hW : ∀ a j, W' a j → W a j) : gT W μ m' :=
  ⟨f.S, by rw [f.z]; exact h.2.1, fun x hx => by rw [f.k, f.n]; obtain ⟨h1, h2, h3⟩ := h.2.2 x hx; exact ⟨h1, h2, fun j hj => by rw [f.v (fun q => hj (hW _ _ q))]; exact h3 j hj⟩⟩
/-- what town has done -/
def q_town (μ : tm_M) (tx : Int → Int) (v : Int) : tQ := fun o m => ∃ r, o = .inl (some (0, r)) ∧ if v < 0 ∨ tm_v μ 4 1 < v then r = -1 ∧ m = tm_w μ 1 10 5 else
  gT wTw μ m ∧ tm_v m 4 1 = 0 ∧ match p_town tx v with
    | .error e => r = -1 ∧ tm_v m 1 10 = 10 ∧ tm_v m 1 11 = e.1 ∧ tm_v m 1 12 = e.2 ∧ tm_v m 1 8 = tm_v μ 1 8 ∧ tm_v m 1 13 = tm_v μ 1 13
    | .ok s => r = n_p s ∧ tm_v m 1 10 = 0 ∧ tm_v m 1 11 = 0 ∧ tm_v m 1 12 = -1 ∧ tm_v m 1 13 = 0 ∧ tm_v m 1 8 = rT m ∧ JR (tm_z μ) (c_tx μ) m s ∧ wfT s
theorem y_RC1 {A : List (Int × Int)} (h : A.all (fun q => decide (q.1 = 1)) = true) : y_RC (tWs [] A) := by
  have k : ∀ a j, a ≠ 1 → ¬ tWs [] A a j := by
    rintro a j ha (q | q)
    · cases q
    · exact ha (of_decide_eq_true (List.all_eq_true.mp h _ q))
  exact ⟨fun a j ha => k a j (by omega), k _ _ (by decide), k _ _ (by decide)⟩
theorem pX0_town (hd : 14 ≤ d) (hs : tS μ) (hB : ∀ k, -128 ≤ tm_v μ 5 k ∧ tm_v μ 5 k ≤ 127) (h41 : tm_v μ 4 1 ≤ 500) (hz : 104 ≤ tm_z μ) (ht : ∀ n b, n ≤ tm_v μ 4 1 → 0 ≤ b → b ≤ n → tok (c_tx μ) n b = tok tx n b) : tC mX0_town d 34 171 [(2, 1), (0, v)] μ (q_town μ tx v) := by
  have bad : (v < 0 ∨ tm_v μ 4 1 < v) → tH mX0_town d 34 171 (tq (q_town μ tx v) 34 171) 15 [(0, 2, 1)] [] μ 0 0 := by
    intro c
    refine rX0_town_15 hs (rcl_I (d' := 0) (pX0_none hs) (by omega) (by decide) (by decide) (fun r m f q => ⟨f.S, ⟨by decide, by decide⟩, r, rfl, ?_⟩))
    rw [if_pos c]
    exact q
  refine tC_of rfl (Nat.le_of_ble_eq_true rfl) (rX0_town_0 hs ⟨fun c => bad (Or.inl c), fun c0 => ⟨fun c1 => ?_, fun c1 => bad (Or.inr c1)⟩⟩)
  rintro m5 rfl
  have s5 : tS (tm_w μ 4 1 0) := tS_wj hs _ (by decide)
  refine ⟨s5, ?_⟩
  rintro m6 rfl
  have s6 : tS (tm_w (tm_w μ 4 1 0) 1 11 0) := tS_wj s5 _ (by decide)
  refine ⟨s6, ?_⟩
  rintro m7 rfl
  have s7 : tS (tm_w (tm_w (tm_w μ 4 1 0) 1 11 0) 1 12 (-1)) := tS_wj s6 _ (by decide)
  refine ⟨s7, ?_⟩
  have ev : ∀ a j, tm_v (tm_w (tm_w (tm_w μ 4 1 0) 1 11 0) 1 12 (-1)) a j = if a = 1 ∧ j = 12 then -1 else if a = 1 ∧ j = 11 then 0 else if a = 4 ∧ j = 1 then 0 else tm_v μ a j := by
    intro a j
    rw [tm_vw, tm_vw, tm_vw]
  have e5 : ∀ j, tm_v (tm_w (tm_w (tm_w μ 4 1 0) 1 11 0) 1 12 (-1)) 5 j = tm_v μ 5 j := fun j => by rw [ev, if_neg (by omega), if_neg (by omega), if_neg (by omega)]
  have etx : c_tx (tm_w (tm_w (tm_w μ 4 1 0) 1 11 0) 1 12 (-1)) = c_tx μ := by
    funext k
    unfold c_tx
    rw [e5]
  have cr := pX2_read (d := d - 1) (tx := tx) (n := v) (by omega) s7 (fun k => by rw [e5]; exact hB k) c0 (by omega) hz (fun b b0 b1 => by rw [etx]; exact ht v b c1 b0 b1)
  have nc : ¬ (v < 0 ∨ tm_v μ 4 1 < v) := by omega
  -- what has been left
  have old : ∀ {m : tm_M}, gR (tm_z μ) (rd0 (tm_w (tm_w (tm_w μ 4 1 0) 1 11 0) 1 12 (-1)) v) m → gT wTw μ m ∧ tm_v m 4 1 = 0 ∧ tm_v m 1 11 = 0 ∧ tm_v m 1 12 = -1 ∧ tm_v m 1 8 = tm_v μ 1 8 ∧ tm_v m 1 13 = tm_v μ 1 13 := by
    intro m g
    have zz : tm_z (tm_w (tm_w (tm_w μ 4 1 0) 1 11 0) 1 12 (-1)) = tm_z μ := rfl
    have V : ∀ x j, x < tm_z μ → ¬ wRr x j → ¬ (x = 4 ∧ j = 8) → ¬ (x = 4 ∧ j = 5) → ¬ (x = 4 ∧ j = 2) → ¬ (x = 4 ∧ j = 7) → tm_v m x j = if x = 1 ∧ j = 12 then -1 else if x = 1 ∧ j = 11 then 0 else if x = 4 ∧ j = 1 then 0 else tm_v μ x j := by
      intro x j hx hw h8 h5 h2 h7
      rw [g.2.2.2 x j hx hw, rd0_v (μ := tm_w (tm_w (tm_w μ 4 1 0) 1 11 0) 1 12 (-1)) x j hx, if_neg h8, rd3_v, if_neg h7, if_neg h5, if_neg h2, ev]
    refine ⟨⟨g.1, ?_, fun x hx => ⟨?_, ?_, fun j hj => ?_⟩⟩, ?_, ?_, ?_, ?_, ?_⟩
    · have := g.2.1
      rw [rd0_z, zz] at this
      omega
    · rw [(g.2.2.1 x hx).1, rd0_k, zz, if_neg (by omega), if_neg (by omega), if_neg (by omega), if_neg (by omega)]
      rfl
    · rw [(g.2.2.1 x hx).2, rd0_n, zz, if_neg (by omega), if_neg (by omega), if_neg (by omega), if_neg (by omega)]
      rfl
    · have no : ∀ p ∈ ([(4, 1), (4, 2), (4, 3), (4, 4), (4, 5), (4, 6), (4, 7), (4, 8), (3, 6), (3, 7), (1, 8), (1, 10), (1, 11), (1, 12), (1, 13)] : List (Int × Int)), ¬ (x, j) = p := fun p hp q => hj (Or.inr (by rw [q]; exact hp))
      have no' : ∀ a b : Int, (a, b) ∈ ([(4, 1), (4, 2), (4, 3), (4, 4), (4, 5), (4, 6), (4, 7), (4, 8), (3, 6), (3, 7), (1, 8), (1, 10), (1, 11), (1, 12), (1, 13)] : List (Int × Int)) → ¬ (x = a ∧ j = b) := fun a b hp q => no _ hp (by rw [q.1, q.2])
      rw [V x j hx (fun q => hj (tWs_sub rfl _ _ q)) (no' 4 8 (by decide)) (no' 4 5 (by decide)) (no' 4 2 (by decide)) (no' 4 7 (by decide)), if_neg (no' 1 12 (by decide)), if_neg (no' 1 11 (by decide)), if_neg (no' 4 1 (by decide))]
    · rw [V 4 1 (by omega) (tWs_noF rfl) (by decide) (by decide) (by decide) (by decide)]; rfl
    · rw [V 1 11 (by omega) (tWs_noF rfl) (by decide) (by decide) (by decide) (by decide)]; rfl
    · rw [V 1 12 (by omega) (tWs_noF rfl) (by decide) (by decide) (by decide) (by decide)]; rfl
    · rw [V 1 8 (by omega) (tWs_noF rfl) (by decide) (by decide) (by decide) (by decide)]; rfl
    · rw [V 1 13 (by omega) (tWs_noF rfl) (by decide) (by decide) (by decide) (by decide)]; rfl
  refine rcl_of cr (by omega) (by decide) (by decide) (fun o m8 q => ?_)
  cases e : p_town tx v with
  | error er =>
    rw [e] at q
    obtain ⟨rfl, g, e6, e7⟩ := q
    have g : gR (tm_z μ) (rd0 (tm_w (tm_w (tm_w μ 4 1 0) 1 11 0) 1 12 (-1)) v) m8 := g
    obtain ⟨gt, o1, o2, o3, o4, o5⟩ := old g
    have s8 := g.1
    refine Or.inr ⟨3, rfl, t_catch (C := "TwoSeek$Wrong") (k := 1) (T0 := TX1) (N := 8) rfl (by decide) (sk_3 s8) (pre := []) (rest := []) (x := (39, 48, 51, 15)) rfl (fun y hy => by cases hy) (by decide) (by decide) q152 q154 (rX0_town_51 s8 ?_)⟩
    refine ⟨⟨by decide, sk_3 s8⟩, ?_⟩
    rintro m2 rfl
    have s2 : tS (tm_w m8 1 11 (tm_v m8 3 6)) := tS_wj s8 _ (by decide)
    refine ⟨s2, ⟨by decide, sk_3 s2⟩, ?_⟩
    have e37 : tm_v (tm_w m8 1 11 (tm_v m8 3 6)) 3 7 = tm_v m8 3 7 := by rw [tm_vw, if_neg (by decide)]
    rw [e37, e6, e7]
    rintro m4 rfl
    have s4 : tS (tm_w (tm_w m8 1 11 er.1) 1 12 er.2) := tS_wj (tS_wj s8 _ (by decide)) _ (by decide)
    refine ⟨s4, rcl_I (d' := 0) (pX0_none s4) (by omega) (by decide) (by decide) (fun r m f q => ⟨f.S, ⟨by decide, by decide⟩, r, rfl, ?_⟩)⟩
    obtain ⟨rfl, rfl⟩ := q
    rw [if_neg nc, e]
    have F : tFr (tWs [] [(1, 10), (1, 11), (1, 12)]) m8 (tm_w (tm_w (tm_w m8 1 11 er.1) 1 12 er.2) 1 10 10) := (((tFr.rf s8).w (tWs_inF rfl) (tS_wj s8 _ (by decide))).w (tWs_inF rfl) s4).w (tWs_inF rfl) f.S
    refine ⟨gt.fr F (tWs_sub rfl), ?_, rfl, ?_, ?_, ?_, ?_, ?_⟩
    · rw [F.v (tWs_noF rfl)]; exact o1
    · rw [tm_vw, if_pos ⟨rfl, rfl⟩]
    · rw [tm_vw, if_neg (by decide), tm_vw, if_neg (by decide), tm_vw, if_pos ⟨rfl, rfl⟩]
    · rw [tm_vw, if_neg (by decide), tm_vw, if_pos ⟨rfl, rfl⟩]
    · rw [F.v (tWs_noF rfl)]; exact o4
    · rw [F.v (tWs_noF rfl)]; exact o5
  | ok s =>
    rw [e] at q
    obtain ⟨rfl, g, J, w⟩ := q
    have g : gR (tm_z μ) (rd0 (tm_w (tm_w (tm_w μ 4 1 0) 1 11 0) 1 12 (-1)) v) m8 := g
    have J : JR (tm_z μ) (c_tx (rd0 (tm_w (tm_w (tm_w μ 4 1 0) 1 11 0) 1 12 (-1)) v)) m8 s := J
    obtain ⟨gt, o1, o2, o3, o4, o5⟩ := old g
    have s8 := g.1
    refine Or.inl ⟨_, rfl, s8, ?_⟩
    rintro m9 rfl
    have s9 : tS (tm_w m8 1 8 (tm_v m8 4 8)) := tS_wj s8 _ (by decide)
    refine ⟨s9, ?_⟩
    rintro m10 rfl
    have s10 : tS (tm_w (tm_w m8 1 8 (tm_v m8 4 8)) 1 13 0) := tS_wj s9 _ (by decide)
    have F10 : tFr (tWs [] [(1, 8), (1, 10), (1, 13)]) m8 (tm_w (tm_w m8 1 8 (tm_v m8 4 8)) 1 13 0) := ((tFr.rf s8).w (tWs_inF rfl) s9).w (tWs_inF rfl) s10
    have J10 := JR_F hz J F10 (y_RC1 rfl)
    have e18 : tm_v (tm_w (tm_w m8 1 8 (tm_v m8 4 8)) 1 13 0) 1 8 = rT (tm_w (tm_w m8 1 8 (tm_v m8 4 8)) 1 13 0) := by
      unfold rT
      rw [F10.v (a := 4) (j := 8) (tWs_noF rfl), tm_vw, if_neg (by decide), tm_vw, if_pos ⟨rfl, rfl⟩]
    have t1 := J10.1.1
    rw [e18]
    refine ⟨s10, ⟨by have := t1.1.1; omega, t1.2⟩, ?_⟩
    refine rcl_I (d' := 0) (pX0_gives s10) (by omega) (by decide) (by decide) (fun r m f q => ⟨f.S, ⟨by decide, by decide⟩, r, rfl, ?_⟩)
    obtain ⟨rfl, rfl⟩ := q
    rw [if_neg nc, e]
    have F : tFr (tWs [] [(1, 8), (1, 10), (1, 13)]) m8 (tm_w (tm_w (tm_w m8 1 8 (tm_v m8 4 8)) 1 13 0) 1 10 0) := F10.w (tWs_inF rfl) f.S
    have J11 := JR_F hz J F (y_RC1 rfl)
    refine ⟨gt.fr F (tWs_sub rfl), ?_, J10.2.1.1, ?_, ?_, ?_, ?_, ?_, ?_, w⟩
    · rw [F.v (tWs_noF rfl)]; exact o1
    · rw [tm_vw, if_pos ⟨rfl, rfl⟩]
    · rw [F.v (tWs_noF rfl)]; exact o2
    · rw [F.v (tWs_noF rfl)]; exact o3
    · rw [tm_vw, if_neg (by decide), tm_vw, if_pos ⟨rfl, rfl⟩]
    · unfold rT
      rw [F.v (a := 4) (j := 8) (tWs_noF rfl), tm_vw, if_neg (by decide), tm_vw, if_neg (by decide), tm_vw, if_pos ⟨rfl, rfl⟩]
    · have e9 : c_tx (rd0 (tm_w (tm_w (tm_w μ 4 1 0) 1 11 0) 1 12 (-1)) v) = c_tx μ := by
        rw [← etx]
        funext k
        unfold c_tx
        have : tm_z (tm_w (tm_w (tm_w μ 4 1 0) 1 11 0) 1 12 (-1)) = tm_z μ := rfl
        rw [rd0_v 5 k (by omega), if_neg (by omega), rd3_v, if_neg (by omega), if_neg (by omega), if_neg (by omega)]
      rw [← e9]
      exact J11
end C0TW
