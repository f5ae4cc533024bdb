/-! CONTRACTS of the model: how many have met by drawn ways -/
def odds (n c : Int) : Int := (if c < 2 then n else 16 - n) * (if c % 2 = 0 then n else 16 - n)
theorem odds_in {n : Int} (hn : 0 ≤ n ∧ n ≤ 16) (c : Int) : 0 ≤ odds n c ∧ odds n c ≤ 256 := by
  unfold odds
  have a : 0 ≤ (if c < 2 then n else 16 - n) ∧ (if c < 2 then n else 16 - n) ≤ 16 := by split <;> omega
  have b : 0 ≤ (if c % 2 = 0 then n else 16 - n) ∧ (if c % 2 = 0 then n else 16 - n) ≤ 16 := by split <;> omega
  have := mul_bd a b
  omega
theorem odds_256 : ∀ n : Fin 17, sm (odds (n.val : Int)) 4 = 256 := by decide +kernel
theorem odds_4 {n : Int} (hn : 0 ≤ n ∧ n ≤ 16) (x : Int) : sm (fun c => x * odds n c) 4 = 256 * x := by
  have := odds_256 ⟨n.toNat, by omega⟩
  rw [sm_mul]
  dsimp only at this
  rw [show ((n.toNat : Nat) : Int) = n by omega] at this
  rw [this, Int.mul_comm]
section C6S
variable {d : Nat} {μ μ0 : tm_M} {W : Int → Int → Prop} {w v n t : Int} {T : Int → Int}
noncomputable def dr_c (μ : tm_M) (w v t k c : Int) : Int := y_pl μ (if c < 2 then w else v) (if c % 2 = 0 then w else v) t.toNat (y_ws0 (k / 8) (k % 8))
noncomputable def dr_t (μ : tm_M) (w v n t : Int) (T : Int → Int) (j k c : Int) : Int := if dr_c μ w v t k c = j then T k * odds n c else 0
noncomputable def dr_n (μ : tm_M) (w v n t : Int) (T : Int → Int) (j : Int) : Int := sm (fun k => sm (dr_t μ w v n t T j k) 4) 64
def dr_0 (μ : tm_M) (k : Int) : Int := if (k / 8 < tm_v μ 65 20 ∧ k % 8 < tm_v μ 65 20) ∧ k / 8 ≠ k % 8 then y_likely μ (k / 8) (k % 8) else 0
def dr_d (μ : tm_M) (k : Int) : Int := if (k / 8 < tm_v μ 65 20 ∧ k % 8 < tm_v μ 65 20) ∧ k / 8 = k % 8 then y_likely μ (k / 8) (k % 8) else 0
noncomputable def dr_i (μ : tm_M) (w v n t : Int) : Nat → Int → Int
  | 0 => dr_0 μ
  | i + 1 => dr_n μ w v n t (dr_i μ w v n t i)
/-- how many have met -/
noncomputable def y_mt (μ : tm_M) (w v n t k : Int) : Int := y_all μ * 256 ^ k.toNat - sm (dr_i μ w v n t k.toNat) 64
def dr_ok (μ : tm_M) (T : Int → Int) : Prop := ∀ k, 0 ≤ k → k < 64 → 0 ≤ T k ∧ (T k ≠ 0 → y_p μ (k / 8) ∧ y_p μ (k % 8))
theorem dr_at {a b : Int} (hb : 0 ≤ b ∧ b < 8) : dr_0 μ (8 * a + b) = (if (a < tm_v μ 65 20 ∧ b < tm_v μ 65 20) ∧ a ≠ b then y_likely μ a b else 0) ∧ dr_d μ (8 * a + b) = if (a < tm_v μ 65 20 ∧ b < tm_v μ 65 20) ∧ a = b then y_likely μ a b else 0 := by
  unfold dr_0 dr_d
  rw [show (8 * a + b) / 8 = a by omega, show (8 * a + b) % 8 = b by omega]
  exact ⟨rfl, rfl⟩
theorem dr_0_ok (hW : y_W μ) : dr_ok μ (dr_0 μ) := by
  intro k k0 k1
  unfold dr_0
  split
  · rename_i c
    have ha : y_p μ (k / 8) := ⟨hW, by omega, c.1.1⟩
    have hb : y_p μ (k % 8) := ⟨hW, by omega, c.1.2⟩
    exact ⟨(y_lik_in ha hb).1, fun _ => ⟨ha, hb⟩⟩
  · exact ⟨Int.le_refl _, fun h => absurd rfl h⟩
theorem dr_d_in (hW : y_W μ) {k : Int} (k0 : 0 ≤ k) : 0 ≤ dr_d μ k := by
  unfold dr_d
  split
  · rename_i c
    exact (y_lik_in ⟨hW, by omega, c.1.1⟩ ⟨hW, by omega, c.1.2⟩).1
  · exact Int.le_refl _
theorem dr_all (hW : y_W μ) : sm (dr_d μ) 64 + sm (dr_0 μ) 64 = y_all μ := by
  have h20 := hW.1
  have hN : (y_n μ : Int) = tm_v μ 65 20 := by unfold y_n; omega
  rw [← sm_plus]
  have key : ∀ a b : Nat, b < 8 → dr_d μ (8 * (a : Int) + b) + dr_0 μ (8 * (a : Int) + b) = if (a : Int) < tm_v μ 65 20 ∧ (b : Int) < tm_v μ 65 20 then y_likely μ a b else 0 := by
    intro a b hb
    have := dr_at (μ := μ) (a := a) (b := b) (by omega)
    rw [this.1, this.2]
    by_cases c : (a : Int) < tm_v μ 65 20 ∧ (b : Int) < tm_v μ 65 20
    · by_cases e : (a : Int) = b
      · rw [if_pos ⟨c, e⟩, if_neg (fun q => q.2 e), if_pos c]; omega
      · rw [if_neg (fun q => e q.2), if_pos ⟨c, e⟩, if_pos c]; omega
    · rw [if_neg (fun q => c q.1), if_neg (fun q => c q.1), if_neg c]; omega
  rw [show (64 : Nat) = 8 * 8 from rfl, sm_flat]
  unfold y_all
  rw [sm_cut (m := y_n μ) (n := 8) (by omega) (fun i hi _ => sm_z (fun b hb => by rw [key i b hb, if_neg (by omega)]))]
  refine sm_congr (fun a ha => ?_)
  rw [sm_cut (m := y_n μ) (n := 8) (by omega) (fun i hi h8 => by rw [key a i h8, if_neg (by omega)])]
  refine sm_congr (fun b hb => ?_)
  rw [key a b (by omega), if_pos (by omega)]
theorem dr_w {c : Int} (hw : y_v μ w) (hv : y_v μ v) : y_v μ (if c < 2 then w else v) ∧ y_v μ (if c % 2 = 0 then w else v) := by
  constructor <;> split <;> assumption
theorem pl_ok0 {a b : Int} (ha : y_p μ a) (hb : y_p μ b) : pl_ok μ 0 (y_ws0 a b) := ⟨ha, hb, ⟨Int.le_refl _, Int.le_refl _⟩, ⟨Int.le_refl _, Int.le_refl _⟩, ⟨Int.le_refl _, show (0 : Int) ≤ 2 by decide⟩, ⟨Int.le_refl _, show (0 : Int) ≤ 2 by decide⟩⟩
theorem dr_c_in {k c : Int} (hw : y_v μ w) (hv : y_v μ v) (ha : y_p μ (k / 8)) (hb : y_p μ (k % 8)) : dr_c μ w v t k c = -1 ∨ ∃ p q, y_p μ p ∧ y_p μ q ∧ dr_c μ w v t k c = 8 * p + q :=
  y_pl_in (dr_w hw hv).1 (dr_w hw hv).2 _ 0 _ (pl_ok0 ha hb)
theorem dr_t_nn {j k c : Int} (hn : 0 ≤ n ∧ n ≤ 16) (h : 0 ≤ T k) : 0 ≤ dr_t μ w v n t T j k c := by
  unfold dr_t
  split
  · exact Int.mul_nonneg h (odds_in hn c).1
  · exact Int.le_refl _
theorem dr_n_ok (hw : y_v μ w) (hv : y_v μ v) (hn : 0 ≤ n ∧ n ≤ 16) (h : dr_ok μ T) : dr_ok μ (dr_n μ w v n t T) := by
  intro j j0 j1
  refine ⟨sm_nn (fun i hi => sm_nn (fun c hc => dr_t_nn hn (h i (by omega) (by omega)).1)), fun hne => ?_⟩
  obtain ⟨i, hi, h1⟩ := sm_ne hne
  obtain ⟨c, hc, h2⟩ := sm_ne h1
  unfold dr_t at h2
  split at h2
  · rename_i e
    have hT : T i ≠ 0 := fun q => h2 (by rw [q, Int.zero_mul])
    have hp := (h i (by omega) (by omega)).2 hT
    rcases dr_c_in (t := t) (c := c) hw hv hp.1 hp.2 with q | ⟨p, q, hp', hq', q1⟩
    · omega
    · have := y_p8 hp'; have := y_p8 hq'
      rw [show j / 8 = p by omega, show j % 8 = q by omega]
      exact ⟨hp', hq'⟩
  · exact absurd rfl h2
theorem dr_i_ok (hW : y_W μ) (hw : y_v μ w) (hv : y_v μ v) (hn : 0 ≤ n ∧ n ≤ 16) (i : Nat) : dr_ok μ (dr_i μ w v n t i) := by
  induction i with
  | zero => exact dr_0_ok hW
  | succ i ih => exact dr_n_ok hw hv hn ih
theorem p256 {A : Int} (hA : 0 ≤ A ∧ A ≤ 5184) {i : Nat} (hi : i ≤ 5) : 0 ≤ A * 256 ^ i ∧ A * 256 ^ i ≤ 5699868278390784 := by
  have : i = 0 ∨ i = 1 ∨ i = 2 ∨ i = 3 ∨ i = 4 ∨ i = 5 := by omega
  rcases this with rfl | rfl | rfl | rfl | rfl | rfl
  · rw [show (256 : Int) ^ 0 = 1 from rfl]; omega
  · rw [show (256 : Int) ^ 1 = 256 from rfl]; omega
  · rw [show (256 : Int) ^ 2 = 65536 from rfl]; omega
  · rw [show (256 : Int) ^ 3 = 16777216 from rfl]; omega
  · rw [show (256 : Int) ^ 4 = 4294967296 from rfl]; omega
  · rw [show (256 : Int) ^ 5 = 1099511627776 from rfl]; omega
theorem pX6_metOf {k : Int} (hd : 4 ≤ d) (hs : tS μ) (hW : y_W μ) (hw : y_v μ w) (hv : y_v μ v) (hn : 0 ≤ n ∧ n ≤ 16) (ht : 0 ≤ t ∧ t ≤ 24) (hk : 0 ≤ k ∧ k ≤ 5) :
    cL wX6_metOf mX6_metOf d [(2, 65), (0, w), (0, v), (0, n), (0, t), (0, k)] μ (fun r _ => r = y_mt μ w v n t k) := by
  have hTT : y_T wX6_metOf := tWs_T rfl
  have hal := y_all_in hW
  have h20 := hW.1
  -- one round
  have round : ∀ (i : Nat) (T : Int → Int) (met0 : Int), 0 ≤ met0 → i ≤ 4 → T = dr_i μ w v n t i → met0 + sm T 64 = y_all μ * 256 ^ i →
      (∀ met m, tFr wX6_metOf μ m → (∀ j, 0 ≤ j → j < 64 → tm_v m 98 j = dr_n μ w v n t T j) → 0 ≤ met → met + sm (dr_n μ w v n t T) 64 = y_all μ * 256 ^ (i + 1) → hLo wX6_metOf μ mX6_metOf d (fun r _ => r = y_mt μ w v n t k) 338 [(0, 2, 65), (1, 0, w), (2, 0, v), (3, 0, n), (4, 0, t), (5, 0, k), (6, 1, met), (8, 0, (i : Int)), (9, 0, 0)] [] m) →
      ∀ m, tFr wX6_metOf μ m → (∀ j, 0 ≤ j → j < 64 → tm_v m 97 j = T j) → (∀ j, 0 ≤ j → j < 64 → tm_v m 98 j = 0) → hLo wX6_metOf μ mX6_metOf d (fun r _ => r = y_mt μ w v n t k) 171 [(0, 2, 65), (1, 0, w), (2, 0, v), (3, 0, n), (4, 0, t), (5, 0, k), (6, 1, met0 * 256), (8, 0, (i : Int)), (9, 0, 0)] [] m := by
    intro i T met0 m00 hi eT hsum kk
    have hTok : dr_ok μ T := by rw [eT]; exact dr_i_ok hW hw hv hn i
    have hTn : ∀ j : Nat, j < 64 → 0 ≤ T j := fun j hj => (hTok j (by omega) (by omega)).1
    have hB := p256 hal (i := i + 1) (by omega)
    have hE : y_all μ * 256 ^ (i + 1) = 256 * (met0 + sm T 64) := by rw [hsum, Int.pow_succ, ← Int.mul_assoc, Int.mul_comm _ 256]
    have inner : ∀ (k' : Nat), k' < 64 → T k' ≠ 0 → ∀ (q c : Nat) (met : Int) (m : tm_M), c + q = 4 → tFr wX6_metOf μ m → (∀ j, 0 ≤ j → j < 64 → tm_v m 97 j = T j) → (∀ j, 0 ≤ j → j < 64 → tm_v m 98 j = sm (fun k => sm (dr_t μ w v n t T j k) 4) k' + sm (dr_t μ w v n t T j k') c) → 0 ≤ met → met + sm (tm_v m 98) 64 = 256 * met0 + 256 * sm T k' + sm (fun c => T k' * odds n c) c →
        (∀ met m, tFr wX6_metOf μ m → (∀ j, 0 ≤ j → j < 64 → tm_v m 97 j = T j) → (∀ j, 0 ≤ j → j < 64 → tm_v m 98 j = sm (fun k => sm (dr_t μ w v n t T j k) 4) (k' + 1)) → 0 ≤ met → met + sm (tm_v m 98) 64 = 256 * met0 + 256 * sm T (k' + 1) → hLo wX6_metOf μ mX6_metOf d (fun r _ => r = y_mt μ w v n t k) 171 [(0, 2, 65), (1, 0, w), (2, 0, v), (3, 0, n), (4, 0, t), (5, 0, k), (6, 1, met), (8, 0, (i : Int)), (9, 0, ((k' + 1 : Nat) : Int))] [] m) →
        hLo wX6_metOf μ mX6_metOf d (fun r _ => r = y_mt μ w v n t k) 196 [(0, 2, 65), (1, 0, w), (2, 0, v), (3, 0, n), (4, 0, t), (5, 0, k), (6, 1, met), (8, 0, (i : Int)), (9, 0, (k' : Int)), (10, 0, (c : Int))] [] m := by
      intro k' hk' hTk q
      have hpl := (hTok k' (by omega) (by omega)).2 hTk
      have hT0 := hTn k' hk'
      have hsk : sm T k' + T k' ≤ sm T 64 := by
        have := sm_mono (m := k' + 1) hTn (by omega)
        rw [sm] at this; exact this
      have hsn : 0 ≤ sm T k' := sm_nn (fun j hj => hTn j (by omega))
      have hTm : T k' ≤ 5699868278390784 := by omega
      have ho4 := odds_4 hn (T k')
      induction q with
      | zero =>
        intro c met m hc hm h97 h98 hmet hphi kk2
        refine uX6_metOf_196 (by omega) hm ⟨fun _ => ?_, fun c2 => by omega⟩
        rw [w32_id (x := (k' : Int) + 1) (by omega) (by omega)]
        refine kk2 met m hm h97 (fun j j0 j1 => ?_) hmet ?_
        · rw [h98 j j0 j1, show c = 4 by omega]; rfl
        · rw [show c = 4 by omega, ho4] at hphi
          rw [hphi, sm]; omega
      | succ q ih =>
        intro c met m hc hm h97 h98 hmet hphi kk2
        have ec : w32 ((c : Int) + 1) = ((c + 1 : Nat) : Int) := by rw [w32_id (by omega) (by omega)]; rfl
        have hx := odds_in hn (c : Int)
        have hxc : 0 ≤ T k' * odds n c := Int.mul_nonneg hT0 hx.1
        have hpc : sm (fun c => T k' * odds n c) c + T k' * odds n c ≤ 256 * T k' := by
          have := sm_mono (m := c + 1) (n := 4) (f := fun c => T k' * odds n c) (fun j _ => Int.mul_nonneg hT0 (odds_in hn j).1) (by omega)
          rw [ho4, sm] at this; exact this
        have h98n : ∀ j : Nat, j < 64 → 0 ≤ tm_v m 98 j := by
          intro j hj
          rw [h98 j (by omega) (by omega)]
          have a := sm_nn (f := fun k => sm (dr_t μ w v n t T j k) 4) (n := k') (fun i hi => sm_nn (fun c hc => dr_t_nn hn (hTn i (by omega))))
          have b := sm_nn (f := dr_t μ w v n t T j k') (n := c) (fun c hc => dr_t_nn hn hT0)
          omega
        have hsm0 := sm_nn h98n
        have tot : met + sm (tm_v m 98) 64 + T k' * odds n c ≤ 5699868278390784 := by omega
        have NX : ∀ met' m', tFr wX6_metOf μ m' → (∀ j, 0 ≤ j → j < 64 → tm_v m' 97 j = T j) → (∀ j, 0 ≤ j → j < 64 → tm_v m' 98 j = tm_v m 98 j + dr_t μ w v n t T j k' c) → 0 ≤ met' → met' + sm (tm_v m' 98) 64 = met + sm (tm_v m 98) 64 + T k' * odds n c → hLo wX6_metOf μ mX6_metOf d (fun r _ => r = y_mt μ w v n t k) 196 [(0, 2, 65), (1, 0, w), (2, 0, v), (3, 0, n), (4, 0, t), (5, 0, k), (6, 1, met'), (8, 0, (i : Int)), (9, 0, (k' : Int)), (10, 0, w32 ((c : Int) + 1))] [] m' := by
          intro met' m' hm' g97 g98 gmet gphi
          rw [ec]
          refine ih (c + 1) met' m' (by omega) hm' g97 (fun j j0 j1 => ?_) gmet ?_ kk2
          · rw [g98 j j0 j1, h98 j j0 j1, sm]; omega
          · rw [gphi, hphi, sm]; omega
        have st : ∀ wc vc x : Int, wc = (if (c : Int) < 2 then w else v) → vc = (if (c : Int) % 2 = 0 then w else v) → x = T k' * odds n c → cI wX6_play mX6_play (d - 1) [(2, 65), (0, wc), (0, vc), (0, w32 ((k' : Int).tdiv 8)), (0, (k' : Int).tmod 8), (0, t)] m (fun r m1 => (0 ≤ r → (0 ≤ r ∧ r < 64) ∧ (∀ m2, m2 = tm_w m1 98 r (w64 (tm_v m1 98 r + x)) → hLo wX6_metOf μ mX6_metOf d (fun r _ => r = y_mt μ w v n t k) 196 [(0, 2, 65), (1, 0, w), (2, 0, v), (3, 0, n), (4, 0, t), (5, 0, k), (6, 1, met), (8, 0, (i : Int)), (9, 0, (k' : Int)), (10, 0, w32 ((c : Int) + 1))] [] m2)) ∧ (r < 0 → ∀ y, y = w64 (met + x) → hLo wX6_metOf μ mX6_metOf d (fun r _ => r = y_mt μ w v n t k) 196 [(0, 2, 65), (1, 0, w), (2, 0, v), (3, 0, n), (4, 0, t), (5, 0, k), (6, 1, y), (8, 0, (i : Int)), (9, 0, (k' : Int)), (10, 0, w32 ((c : Int) + 1))] [] m1)) := by
          rintro wc vc x ew ev ex
          have etd : w32 ((k' : Int).tdiv 8) = (k' : Int) / 8 := by
            rw [Int.tdiv_eq_ediv_of_nonneg (by omega), w32_id (by omega) (by omega)]
          have etm : (k' : Int).tmod 8 = (k' : Int) % 8 := Int.tmod_eq_emod_of_nonneg (by omega)
          rw [etd, etm]
          have gw : y_v μ wc := by rw [ew]; exact (dr_w hw hv).1
          have gv : y_v μ vc := by rw [ev]; exact (dr_w hw hv).2
          refine tC.I (pX6_play (by omega) hm.S ((y_v_F hm hTT _).mpr gw) ((y_v_F hm hTT _).mpr gv) ((y_p_F hm hTT _).mpr hpl.1) ((y_p_F hm hTT _).mpr hpl.2) (by omega)) ?_
          intro r m1 f1 hr
          rw [y_pl_F hm hTT, ew, ev] at hr
          have hr' : r = dr_c μ w v t k' c := hr
          have fm1 := hm.tr f1 (tWs_sub rfl)
          have g97 : ∀ j, 0 ≤ j → j < 64 → tm_v m1 97 j = T j := fun j j0 j1 => by rw [f1.v (tWs_no _ rfl)]; exact h97 j j0 j1
          have g98 : ∀ j, tm_v m1 98 j = tm_v m 98 j := fun j => f1.v (tWs_no _ rfl)
          have e98 : tm_v m1 98 = tm_v m 98 := funext g98
          refine ⟨fun c0 => ?_, fun c0 => ?_⟩
          · have hr64 : r < 64 := by
              rcases dr_c_in (t := t) (c := c) hw hv hpl.1 hpl.2 with q | ⟨p, q, hp', hq', q1⟩
              · omega
              · have := y_p8 hp'; have := y_p8 hq'; omega
            refine ⟨⟨c0, hr64⟩, ?_⟩
            rintro m2 e2
            obtain ⟨rn, ern⟩ : ∃ rn : Nat, r = rn := ⟨r.toNat, by omega⟩
            have hgt := sm_get h98n (j := rn) (by omega)
            rw [← ern] at hgt
            have hval : w64 (tm_v m1 98 r + x) = tm_v m 98 r + x := by
              rw [g98, ex]
              exact w64_id (by have := h98n rn (by omega); rw [← ern] at this; omega) (by omega)
            rw [hval] at e2
            have fm2 : tFr wX6_metOf μ m2 := by rw [e2]; exact fm1.w (tWs_in _ rfl) (tS_w fm1.S sf_98 _ _)
            refine NX met m2 fm2 (fun j j0 j1 => ?_) (fun j j0 j1 => ?_) hmet ?_
            · rw [e2, tm_vw, if_neg (by omega)]; exact g97 j j0 j1
            · rw [e2, tm_vw]
              unfold dr_t
              by_cases ej : j = r
              · rw [if_pos ⟨rfl, ej⟩, if_pos (by rw [← hr', ej]), ej, ex]
              · rw [if_neg (fun q => ej q.2), if_neg (by rw [← hr']; exact fun q => ej q.symm), g98]; omega
            · have : tm_v m2 98 = fup (tm_v m 98) rn (tm_v m 98 rn + x) := by rw [e2, vw_fup, e98, ern]
              rw [this, sm_fup (by omega), ex]; omega
          · rintro y rfl
            rw [ex, w64_id (x := met + T k' * odds n c) (by omega) (by omega)]
            refine NX _ m1 fm1 g97 (fun j j0 j1 => ?_) (by omega) (by rw [e98]; omega)
            unfold dr_t
            rw [g98, if_neg (by rw [← hr']; omega)]; omega
        have sz : ∀ x, x = T k' * odds n c → x = 0 → ∀ m2, m2 = tm_w m 98 0 (w64 (tm_v m 98 0 + x)) → hLo wX6_metOf μ mX6_metOf d (fun r _ => r = y_mt μ w v n t k) 196 [(0, 2, 65), (1, 0, w), (2, 0, v), (3, 0, n), (4, 0, t), (5, 0, k), (6, 1, met), (8, 0, (i : Int)), (9, 0, (k' : Int)), (10, 0, w32 ((c : Int) + 1))] [] m2 := by
          intro x ex hz m2 e2
          have hgt := sm_get h98n (j := 0) (by omega)
          have h0n := h98n 0 (by omega)
          rw [Int.natCast_zero] at hgt h0n
          have em : m2 = m := by rw [e2, hz, Int.add_zero, w64_id (by omega) (by omega), tm_wv]
          rw [em]
          refine NX met m hm h97 (fun j j0 j1 => ?_) hmet (by omega)
          unfold dr_t
          rw [← ex, hz, ite_self]; omega
        have ww : ∀ a b : Int, (0 ≤ a ∧ a ≤ 16) → (0 ≤ b ∧ b ≤ 16) → w64 (w64 (tm_v m 97 k' * a) * b) = T k' * (a * b) := by
          intro a b ha hb
          have h1 := mul_bd (x := T k') (y := a) ⟨hT0, hTm⟩ ha
          have h2 := mul_bd h1 hb
          rw [h97 k' (by omega) (by omega), w64_id (x := T k' * a) (by omega) (by omega), w64_id (by omega) (by omega), Int.mul_assoc]
        have e16 : w32 (16 - n) = 16 - n := w32_id (by omega) (by omega)
        have hc4 : c = 0 ∨ c = 1 ∨ c = 2 ∨ c = 3 := by omega
        clear kk2 ih NX kk
        refine uX6_metOf_196 (by omega) hm ⟨fun c2 => by omega, fun _ => ⟨by omega, ?_⟩⟩
        rw [e16, ww _ _ (by omega) (by omega), ww _ _ (by omega) (by omega), ww _ _ (by omega) (by omega), ww _ _ (by omega) (by omega)]
        rcases hc4 with rfl | rfl | rfl | rfl
        · have eo : n * n = odds n ((0 : Nat) : Int) := rfl
          refine ⟨fun a => absurd a (by decide), fun _ => ⟨fun a => absurd a (by decide), fun _ x ex => ?_⟩⟩
          rw [eo] at ex
          exact ⟨fun _ => ⟨fun a => absurd a (by decide), fun _ => ⟨fun a => absurd a (by decide), fun _ => st w w x rfl rfl ex⟩⟩, fun hz => sz x ex hz⟩
        · have eo : n * (16 - n) = odds n ((1 : Nat) : Int) := rfl
          refine ⟨fun a => absurd a (by decide), fun _ => ⟨fun _ x ex => ?_, fun a => absurd a (by decide)⟩⟩
          rw [eo] at ex
          exact ⟨fun _ => ⟨fun a => absurd a (by decide), fun _ => ⟨fun _ => st w v x rfl rfl ex, fun a => absurd a (by decide)⟩⟩, fun hz => sz x ex hz⟩
        · have eo : (16 - n) * n = odds n ((2 : Nat) : Int) := rfl
          refine ⟨fun _ => ⟨fun a => absurd a (by decide), fun _ x ex => ?_⟩, fun a => absurd a (by decide)⟩
          rw [eo] at ex
          exact ⟨fun _ => ⟨fun _ => ⟨fun a => absurd a (by decide), fun _ => st v w x rfl rfl ex⟩, fun a => absurd a (by decide)⟩, fun hz => sz x ex hz⟩
        · have eo : (16 - n) * (16 - n) = odds n ((3 : Nat) : Int) := rfl
          refine ⟨fun _ => ⟨fun _ x ex => ?_, fun a => absurd a (by decide)⟩, fun a => absurd a (by decide)⟩
          rw [eo] at ex
          exact ⟨fun _ => ⟨fun _ => ⟨fun _ => st v v x rfl rfl ex, fun a => absurd a (by decide)⟩, fun a => absurd a (by decide)⟩, fun hz => sz x ex hz⟩
    have outer : ∀ (q k' : Nat) (met : Int) (m : tm_M), k' + q = 64 → tFr wX6_metOf μ m → (∀ j, 0 ≤ j → j < 64 → tm_v m 97 j = T j) → (∀ j, 0 ≤ j → j < 64 → tm_v m 98 j = sm (fun k => sm (dr_t μ w v n t T j k) 4) k') → 0 ≤ met → met + sm (tm_v m 98) 64 = 256 * met0 + 256 * sm T k' → hLo wX6_metOf μ mX6_metOf d (fun r _ => r = y_mt μ w v n t k) 171 [(0, 2, 65), (1, 0, w), (2, 0, v), (3, 0, n), (4, 0, t), (5, 0, k), (6, 1, met), (8, 0, (i : Int)), (9, 0, (k' : Int))] [] m := by
      intro q
      induction q with
      | zero =>
        intro k' met m hc hm h97 h98 hmet hphi
        refine uX6_metOf_171 hm ⟨fun _ => ?_, fun c2 => by omega⟩
        have e64 : k' = 64 := by omega
        subst e64
        refine kk met m hm h98 hmet ?_
        have : sm (dr_n μ w v n t T) 64 = sm (tm_v m 98) 64 := sm_congr (fun j hj => (h98 j (by omega) (by omega)).symm)
        rw [this, hphi, hE]; omega
      | succ q ih =>
        intro k' met m hc hm h97 h98 hmet hphi
        refine uX6_metOf_171 hm ⟨fun c2 => by omega, fun _ => ⟨by omega, fun c2 => ?_, fun c2 => ?_⟩⟩
        · refine inner k' (by omega) (by rw [← h97 k' (by omega) (by omega)]; exact c2) 4 0 met m (by omega) hm h97 (fun j j0 j1 => ?_) hmet ?_ (fun met' m' a1 a2 a3 a4 a5 => ih (k' + 1) met' m' (by omega) a1 a2 a3 a4 a5)
          · rw [h98 j j0 j1, sm]; omega
          · rw [hphi, sm.eq_1 (fun c => T k' * odds n c)]; omega
        · rw [h97 k' (by omega) (by omega)] at c2
          rw [w32_id (x := (k' : Int) + 1) (by omega) (by omega)]
          refine ih (k' + 1) met m (by omega) hm h97 (fun j j0 j1 => ?_) hmet ?_
          · rw [h98 j j0 j1, sm]
            have : sm (dr_t μ w v n t T j k') 4 = 0 := sm_z (fun c _ => by unfold dr_t; rw [c2, Int.zero_mul, ite_self])
            omega
          · rw [hphi, sm, c2]; omega
    intro m hm h97 h98
    refine outer 64 0 (met0 * 256) m (by omega) hm h97 (fun j j0 j1 => h98 j j0 j1) (by omega) ?_
    rw [sm_z (fun j hj => h98 j (by omega) (by omega)), sm]; omega
  have rounds : ∀ (q i : Nat) (met : Int) (m : tm_M), i + q = k.toNat → tFr wX6_metOf μ m → (∀ j, 0 ≤ j → j < 64 → tm_v m 97 j = dr_i μ w v n t i j) → 0 ≤ met → met + sm (dr_i μ w v n t i) 64 = y_all μ * 256 ^ i → hLo wX6_metOf μ mX6_metOf d (fun r _ => r = y_mt μ w v n t k) 129 [(0, 2, 65), (1, 0, w), (2, 0, v), (3, 0, n), (4, 0, t), (5, 0, k), (6, 1, met), (8, 0, (i : Int))] [] m := by
    intro q
    induction q with
    | zero =>
      intro i met m hc hm h97 hmet hsum
      refine uX6_metOf_129 hm ⟨fun _ => ?_, fun c2 => by omega⟩
      show met = y_mt μ w v n t k
      unfold y_mt
      rw [show k.toNat = i by omega]; omega
    | succ q ih =>
      intro i met m hc hm h97 hmet hsum
      have hB := p256 hal (i := i) (by omega)
      have hsn : 0 ≤ sm (dr_i μ w v n t i) 64 := sm_nn (fun j hj => (dr_i_ok hW hw hv hn i j (by omega) (by omega)).1)
      refine uX6_metOf_129 hm ⟨fun c2 => by omega, fun _ x ex => ?_⟩
      rw [w64_id (x := met * 256) (by omega) (by omega)] at ex
      subst ex
      have copy : ∀ (q' j' : Nat) (met : Int) (m : tm_M), j' + q' = 64 → tFr wX6_metOf μ m → (∀ j, 0 ≤ j → j < 64 → tm_v m 98 j = dr_i μ w v n t (i + 1) j) → (∀ j : Int, 0 ≤ j → j < (j' : Int) → tm_v m 97 j = dr_i μ w v n t (i + 1) j) → 0 ≤ met → met + sm (dr_i μ w v n t (i + 1)) 64 = y_all μ * 256 ^ (i + 1) → hLo wX6_metOf μ mX6_metOf d (fun r _ => r = y_mt μ w v n t k) 338 [(0, 2, 65), (1, 0, w), (2, 0, v), (3, 0, n), (4, 0, t), (5, 0, k), (6, 1, met), (8, 0, (i : Int)), (9, 0, (j' : Int))] [] m := by
        intro q'
        induction q' with
        | zero =>
          intro j' met m hc' hm h98 h97 hmet hsum
          refine uX6_metOf_338 hm ⟨fun _ => ?_, fun c2 => by omega⟩
          rw [w32_id (x := (i : Int) + 1) (by omega) (by omega)]
          exact ih (i + 1) met m (by omega) hm (fun j j0 j1 => h97 j j0 (by omega)) hmet hsum
        | succ q' ihq =>
          intro j' met m hc' hm h98 h97 hmet hsum
          refine uX6_metOf_338 hm ⟨fun c2 => by omega, fun _ => ⟨by omega, ?_⟩⟩
          rintro m2 e2
          rw [w32_id (x := (j' : Int) + 1) (by omega) (by omega)]
          refine ihq (j' + 1) met m2 (by omega) (by rw [e2]; exact hm.w (tWs_in _ rfl) (tS_w hm.S sf_97 _ _)) (fun j j0 j1 => ?_) (fun j j0 j1 => ?_) hmet hsum
          · rw [e2, tm_vw, if_neg (by omega)]; exact h98 j j0 j1
          · rw [e2, tm_vw]
            by_cases e : j = j'
            · rw [if_pos ⟨rfl, e⟩, e]; exact h98 j' (by omega) (by omega)
            · rw [if_neg (fun q => e q.2)]; exact h97 j j0 (by omega)
      have zero : ∀ (q' j' : Nat) (m : tm_M), j' + q' = 64 → tFr wX6_metOf μ m → (∀ j, 0 ≤ j → j < 64 → tm_v m 97 j = dr_i μ w v n t i j) → (∀ j : Int, 0 ≤ j → j < (j' : Int) → tm_v m 98 j = 0) → hLo wX6_metOf μ mX6_metOf d (fun r _ => r = y_mt μ w v n t k) 147 [(0, 2, 65), (1, 0, w), (2, 0, v), (3, 0, n), (4, 0, t), (5, 0, k), (6, 1, met * 256), (8, 0, (i : Int)), (9, 0, (j' : Int))] [] m := by
        intro q'
        induction q' with
        | zero =>
          intro j' m hc' hm h97 h98
          refine uX6_metOf_147 hm ⟨fun _ => ?_, fun c2 => by omega⟩
          exact round i (dr_i μ w v n t i) met hmet (by omega) rfl hsum (fun met' m' a1 a2 a3 a4 => copy 64 0 met' m' (by omega) a1 a2 (fun j j0 j1 => by omega) a3 a4) m hm h97 (fun j j0 j1 => h98 j j0 (by omega))
        | succ q' ihq =>
          intro j' m hc' hm h97 h98
          refine uX6_metOf_147 hm ⟨fun c2 => by omega, fun _ => ⟨by omega, ?_⟩⟩
          rintro m2 e2
          rw [w32_id (x := (j' : Int) + 1) (by omega) (by omega)]
          refine ihq (j' + 1) m2 (by omega) (by rw [e2]; exact hm.w (tWs_in _ rfl) (tS_w hm.S sf_98 _ _)) (fun j j0 j1 => ?_) (fun j j0 j1 => ?_)
          · rw [e2, tm_vw, if_neg (by omega)]; exact h97 j j0 j1
          · rw [e2, tm_vw]
            by_cases e : j = j'
            · rw [if_pos ⟨rfl, e⟩]
            · rw [if_neg (fun q => e q.2)]; exact h98 j j0 (by omega)
      exact zero 64 0 m (by omega) hm h97 (fun j j0 j1 => by omega)
  have hdn : ∀ j : Nat, 0 ≤ dr_d μ j := fun j => dr_d_in hW (by omega)
  have hda := dr_all hW
  have h0n : 0 ≤ sm (dr_0 μ) 64 := sm_nn (fun j hj => (dr_0_ok hW j (by omega) (by omega)).1)
  have fill : ∀ (q a b : Nat) (met : Int) (m : tm_M), b + q = 8 → a < 8 → tFr wX6_metOf μ m → (∀ j, 0 ≤ j → j < 8 * (a : Int) + b → tm_v m 97 j = dr_0 μ j) → met = sm (dr_d μ) (8 * a + b) → (∀ met m, tFr wX6_metOf μ m → (∀ j, 0 ≤ j → j < 8 * (a : Int) + 8 → tm_v m 97 j = dr_0 μ j) → met = sm (dr_d μ) (8 * a + 8) → hLo wX6_metOf μ mX6_metOf d (fun r _ => r = y_mt μ w v n t k) 6 [(0, 2, 65), (1, 0, w), (2, 0, v), (3, 0, n), (4, 0, t), (5, 0, k), (6, 1, met), (8, 0, ((a + 1 : Nat) : Int))] [] m) → hLo wX6_metOf μ mX6_metOf d (fun r _ => r = y_mt μ w v n t k) 16 [(0, 2, 65), (1, 0, w), (2, 0, v), (3, 0, n), (4, 0, t), (5, 0, k), (6, 1, met), (8, 0, (a : Int)), (9, 0, (b : Int))] [] m := by
    intro q
    induction q with
    | zero =>
      intro a b met m hb ha hm h97 hmet kk
      refine uX6_metOf_16 (by omega) hm ⟨fun _ => ?_, fun c2 => by omega⟩
      rw [w32_id (x := (a : Int) + 1) (by omega) (by omega)]
      have e8 : b = 8 := by omega
      subst e8
      exact kk met m hm h97 hmet
    | succ q ih =>
      intro a b met m hb ha hm h97 hmet kk
      have hat := dr_at (μ := μ) (a := a) (b := b) (by omega)
      have hmb := sm_mono (f := dr_d μ) (m := 8 * a + b + 1) (n := 64) (fun j _ => hdn j) (by omega)
      have hm0 := sm_nn (f := dr_d μ) (n := 8 * a + b) (fun j _ => hdn j)
      rw [sm] at hmb
      have hd0 := hdn (8 * a + b)
      have ecast : ((8 * a + b : Nat) : Int) = 8 * (a : Int) + b := by omega
      rw [ecast] at hmb hd0
      have nx : ∀ x y met' m', m' = tm_w m 97 (8 * (a : Int) + b) x → x = dr_0 μ (8 * (a : Int) + b) → met' = w64 (met + y) → y = dr_d μ (8 * (a : Int) + b) → hLo wX6_metOf μ mX6_metOf d (fun r _ => r = y_mt μ w v n t k) 16 [(0, 2, 65), (1, 0, w), (2, 0, v), (3, 0, n), (4, 0, t), (5, 0, k), (6, 1, met'), (8, 0, (a : Int)), (9, 0, w32 ((b : Int) + 1))] [] m' := by
        intro x y met' m' e' ex em ey
        rw [w32_id (x := (b : Int) + 1) (by omega) (by omega)]
        refine ih a (b + 1) met' m' (by omega) ha (by rw [e']; exact hm.w (tWs_in _ rfl) (tS_w hm.S sf_97 _ _)) (fun j j0 j1 => ?_) ?_ kk
        · rw [e', tm_vw]
          by_cases e : j = 8 * (a : Int) + b
          · rw [if_pos ⟨rfl, e⟩, e]; exact ex
          · rw [if_neg (fun q => e q.2)]; exact h97 j j0 (by omega)
        · rw [em, ey, hmet, w64_id (by omega) (by omega), show 8 * a + (b + 1) = 8 * a + b + 1 by omega, sm, ecast]
      refine uX6_metOf_16 (by omega) hm ⟨fun c2 => by omega, fun _ => ?_⟩
      rw [w32_8 (by omega) (by omega)]
      refine ⟨fun c1 => ⟨by omega, fun m' e' x ex => nx 0 0 x m' e' ?_ ex ?_⟩, fun c1 => ⟨fun c2 => ⟨by omega, fun m' e' x ex => nx 0 0 x m' e' ?_ ex ?_⟩, fun c2 => ⟨fun c3 => ⟨by omega, fun m' e' => ⟨fun c4 => absurd c3 c4, fun _ => ⟨⟨⟨hW, by omega, c1⟩, ⟨hW, by omega, c2⟩⟩, fun x ex => nx 0 _ x m' e' ?_ ex ?_⟩⟩⟩, fun c3 => ⟨⟨⟨hW, by omega, c1⟩, ⟨hW, by omega, c2⟩⟩, by omega, fun m' e' => ⟨fun _ x ex => nx _ 0 x m' e' ?_ ex ?_, fun c4 => absurd c4 c3⟩⟩⟩⟩⟩
      · rw [hat.1, if_neg (by omega)]
      · rw [hat.2, if_neg (by omega)]
      · rw [hat.1, if_neg (by omega)]
      · rw [hat.2, if_neg (by omega)]
      · rw [hat.1, if_neg (fun q => q.2 c3)]
      · rw [hat.2, if_pos ⟨⟨c1, c2⟩, c3⟩]
      · rw [hat.1, if_pos ⟨⟨c1, c2⟩, c3⟩]
      · rw [hat.2, if_neg (fun q => c3 q.2)]
  have fills : ∀ (q a : Nat) (met : Int) (m : tm_M), a + q = 8 → tFr wX6_metOf μ m → (∀ j, 0 ≤ j → j < 8 * (a : Int) → tm_v m 97 j = dr_0 μ j) → met = sm (dr_d μ) (8 * a) → hLo wX6_metOf μ mX6_metOf d (fun r _ => r = y_mt μ w v n t k) 6 [(0, 2, 65), (1, 0, w), (2, 0, v), (3, 0, n), (4, 0, t), (5, 0, k), (6, 1, met), (8, 0, (a : Int))] [] m := by
    intro q
    induction q with
    | zero =>
      intro a met m ha hm h97 hmet
      refine uX6_metOf_6 hm ⟨fun _ => ?_, fun c2 => by omega⟩
      rw [show 8 * a = 64 by omega] at hmet
      refine rounds k.toNat 0 met m (by omega) hm (fun j j0 j1 => h97 j j0 (by omega)) (by rw [hmet]; exact sm_nn (fun j _ => hdn j)) ?_
      rw [hmet, show (256 : Int) ^ 0 = 1 from rfl, Int.mul_one]
      exact hda
    | succ q ih =>
      intro a met m ha hm h97 hmet
      refine uX6_metOf_6 hm ⟨fun c2 => by omega, fun _ => ?_⟩
      refine fill 8 a 0 met m (by omega) (by omega) hm (fun j j0 j1 => h97 j j0 (by omega)) hmet (fun met' m' a1 a2 a3 => ?_)
      exact ih (a + 1) met' m' (by omega) a1 (fun j j0 j1 => a2 j j0 (by omega)) a3
  exact t_of (uX6_metOf_0 (tFr.rf hs) (fills 8 0 0 μ (by omega) (tFr.rf hs) (fun j j0 j1 => by omega) rfl))
end C6S
