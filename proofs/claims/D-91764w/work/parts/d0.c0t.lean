/-! CONTRACTS of the component: ways that are drawn -/
/-- the second one's draw ahead of the first one's -/
def dsw (c : Int) : Int := if c = 1 then 2 else if c = 2 then 1 else c
theorem sm_dsw (F : Int → Int) : sm (fun c => F (dsw c)) 4 = sm F 4 := by
  simp only [sm, dsw]
  simp
  omega
section C0T
variable {d : Nat} {μ μ0 ν : tm_M} {W : Int → Int → Prop} {w v n t : Int}
abbrev WD : Int → Int → Prop := tWs [7, 8, 48, 49] []
theorem pX0_apart {k : Nat} (hd : 4 ≤ d) (hs : tS μ) (hJ : JU μ ν) (hV : JV μ ν) (hw : y_v ν w) (hv : y_v ν v) (hn : 0 ≤ n ∧ n ≤ 16) (ht : 0 ≤ t ∧ t ≤ 24) (hk : k ≤ 5) : cL WD mX0_apart d [(2, 1), (0, w), (0, v), (0, n), (0, t), (0, (k : Int))] μ (fun r _ => r = sm (dr_i ν w v n t k) 64) := by
  have hT : y_TC (c_FA μ) WD := tWs_TC ⟨rfl, rfl⟩
  have hC : y_VC WD := tWs_VC rfl
  have hW := hJ.1
  have hal := y_all_in hW
  have w48 : ∀ {m : tm_M} {j y : Int}, tFr WD μ m → tFr WD μ (tm_w m 48 j y) := fun h => h.w (tWs_in _ rfl) (tS_w h.S sf_48 _ _)
  have w49 : ∀ {m : tm_M} {j y : Int}, tFr WD μ m → tFr WD μ (tm_w m 49 j y) := fun h => h.w (tWs_in _ rfl) (tS_w h.S sf_49 _ _)
  have hbd : ∀ i : Nat, i < 5 → ∀ j, 0 ≤ j → j < 64 → 0 ≤ dr_i ν w v n t i j ∧ dr_i ν w v n t i j * 256 ≤ 5699868278390784 := by
    intro i hi j j0 j1
    have h0 := dr_i_ok (t := t) hW hw hv hn i
    have h1 := sm_get (f := dr_i ν w v n t i) (n := 64) (j := j.toNat) (fun q hq => (h0 q (by omega) (by omega)).1) (by omega)
    rw [show ((j.toNat : Nat) : Int) = j by omega] at h1
    have h2 := (dr_sum (t := t) hW hw hv hn i).2
    have h3 := p256 hal (i := i + 1) (by omega)
    rw [Int.pow_succ, ← Int.mul_assoc] at h3
    exact ⟨(h0 j j0 j1).1, by omega⟩
  -- the sum in the end
  have fin : ∀ m, tFr WD μ m → (∀ j, 0 ≤ j → j < 64 → tm_v m 48 j = dr_i ν w v n t k j) → ∀ (q K : Nat), K + q = 64 → hLo WD μ mX0_apart d (fun r _ => r = sm (dr_i ν w v n t k) 64) 281 [(0, 2, 1), (6, 1, sm (dr_i ν w v n t k) K), (8, 0, (K : Int))] [] m := by
    intro m hm h48 q
    have h0 := dr_i_ok (t := t) hW hw hv hn k
    have hs2 := dr_sum (t := t) hW hw hv hn k
    have h3 := p256 hal (i := k) hk
    induction q with
    | zero =>
      intro K hK
      refine uX0_apart_281 hm ⟨fun _ => by rw [show K = 64 by omega], fun c => by omega⟩
    | succ q ih =>
      intro K hK
      have e1 : w32 ((K : Int) + 1) = ((K + 1 : Nat) : Int) := by rw [w32_id (by omega) (by omega)]; omega
      have hb1 := sm_nn (f := dr_i ν w v n t k) (n := K + 1) (fun i hi => (h0 i (by omega) (by omega)).1)
      have hb2 := sm_mono (f := dr_i ν w v n t k) (m := K + 1) (n := 64) (fun i hi => (h0 i (by omega) (by omega)).1) (by omega)
      refine uX0_apart_281 hm ⟨fun c => by omega, fun _ => ⟨by omega, ?_⟩⟩
      rw [h48 K (by omega) (by omega), e1]
      rintro _ rfl
      rw [sm] at hb1 hb2
      rw [w64_id (by omega) (by omega)]
      exact ih (K + 1) (by omega)
  -- a draw of a pair
  have draws : ∀ (i : Nat) (K' : tm_M → Prop), i < 5 → ∀ (K : Nat), K < 64 → ∀ (q C : Nat) (m : tm_M), C + q = 4 → tFr WD μ m → (∀ j, 0 ≤ j → j < 64 → tm_v m 48 j = dr_i ν w v n t i j) → (∀ j, 0 ≤ j → j < 64 → tm_v m 49 j = sm (fun z => sm (dr_t ν w v n t (dr_i ν w v n t i) j z) 4) K + sm (fun c => dr_t ν w v n t (dr_i ν w v n t i) j K (dsw c)) C) →
      (∀ m', tFr WD μ m' → (∀ j, 0 ≤ j → j < 64 → tm_v m' 48 j = dr_i ν w v n t i j) → (∀ j, 0 ≤ j → j < 64 → tm_v m' 49 j = sm (fun z => sm (dr_t ν w v n t (dr_i ν w v n t i) j z) 4) (K + 1)) → hLo WD μ mX0_apart d (fun r _ => r = sm (dr_i ν w v n t k) 64) 248 [(0, 2, 1), (1, 0, w), (2, 0, v), (3, 0, n), (4, 0, t), (5, 0, (k : Int)), (6, 0, (i : Int)), (7, 0, (K : Int))] [] m') →
      hLo WD μ mX0_apart d (fun r _ => r = sm (dr_i ν w v n t k) 64) 121 [(0, 2, 1), (1, 0, w), (2, 0, v), (3, 0, n), (4, 0, t), (5, 0, (k : Int)), (6, 0, (i : Int)), (7, 0, (K : Int)), (8, 0, (C : Int))] [] m := by
    intro i _ hi K hK q
    have hKb := hbd i hi K (by omega) (by omega)
    have h0 := dr_i_ok (t := t) hW hw hv hn i
    -- partial sums are small
    have tb : ∀ j z c : Int, 0 ≤ z → z < 64 → 0 ≤ dr_t ν w v n t (dr_i ν w v n t i) j z c ∧ dr_t ν w v n t (dr_i ν w v n t i) j z c ≤ 5699868278390784 := by
      intro j z c z0 z1
      have hz := hbd i hi z z0 z1
      have ho := odds_in hn c
      unfold dr_t
      split
      · have := mul_bd (x := dr_i ν w v n t i z) (y := odds n c) (a := dr_i ν w v n t i z) (b := 256) ⟨hz.1, Int.le_refl _⟩ ho
        omega
      · omega
    have pb : ∀ j : Int, 0 ≤ sm (fun z => sm (dr_t ν w v n t (dr_i ν w v n t i) j z) 4) K ∧ sm (fun z => sm (dr_t ν w v n t (dr_i ν w v n t i) j z) 4) K ≤ 1459166279268040704 := by
      intro j
      have := sm_in (f := fun z => sm (dr_t ν w v n t (dr_i ν w v n t i) j z) 4) (c := 22799473113563136) K (fun z hz => by
        have := sm_bd (f := dr_t ν w v n t (dr_i ν w v n t i) j z) (n := 4) (c := 5699868278390784) (fun c _ => tb j z c (by omega) (by omega))
        (try dsimp only)
        omega) (by decide) (N := 64) (by omega)
      omega
    have qb : ∀ (j : Int) (C : Nat), C ≤ 4 → 0 ≤ sm (fun c => dr_t ν w v n t (dr_i ν w v n t i) j K (dsw c)) C ∧ sm (fun c => dr_t ν w v n t (dr_i ν w v n t i) j K (dsw c)) C ≤ 22799473113563136 := by
      intro j C hC
      have := sm_in (f := fun c => dr_t ν w v n t (dr_i ν w v n t i) j K (dsw c)) (c := 5699868278390784) C (fun c _ => tb j K (dsw c) (by omega) (by omega)) (by decide) (N := 4) hC
      omega
    induction q with
    | zero =>
      intro C m hq hm h48 h49 kk
      refine uX0_apart_121 (by omega) hm ⟨fun _ => kk m hm h48 (fun j j0 j1 => ?_), fun c => by omega⟩
      rw [h49 j j0 j1, show C = 4 by omega, sm_dsw]
      rfl
    | succ q ih =>
      intro C m hq hm h48 h49 kk
      have e1 : w32 ((C : Int) + 1) = ((C + 1 : Nat) : Int) := by rw [w32_id (by omega) (by omega)]; omega
      have e48 := h48 K (by omega) (by omega)
      -- behind a draw that changes x
      have nx : ∀ m', tFr WD μ m' → (∀ j, 0 ≤ j → j < 64 → tm_v m' 48 j = dr_i ν w v n t i j) → (∀ j, 0 ≤ j → j < 64 → tm_v m' 49 j = tm_v m 49 j + dr_t ν w v n t (dr_i ν w v n t i) j K (dsw C)) → hLo WD μ mX0_apart d (fun r _ => r = sm (dr_i ν w v n t k) 64) 242 [(0, 2, 1), (1, 0, w), (2, 0, v), (3, 0, n), (4, 0, t), (5, 0, (k : Int)), (6, 0, (i : Int)), (7, 0, (K : Int)), (8, 0, (C : Int))] [] m' := by
        intro m' hm' g48 g49
        refine uX0_apart_242 hm' ?_
        rw [e1]
        refine ih (C + 1) m' (by omega) hm' g48 (fun j j0 j1 => ?_) kk
        rw [g49 j j0 j1, h49 j j0 j1, sm, Int.add_assoc]
      have zero : odds n (dsw C) = 0 → hLo WD μ mX0_apart d (fun r _ => r = sm (dr_i ν w v n t k) 64) 242 [(0, 2, 1), (1, 0, w), (2, 0, v), (3, 0, n), (4, 0, t), (5, 0, (k : Int)), (6, 0, (i : Int)), (7, 0, (K : Int)), (8, 0, (C : Int))] [] m := fun ho => nx m hm h48 (fun j j0 j1 => by
        unfold dr_t; rw [ho]; split <;> omega)
      -- the walk
      have wlk : tm_v m 48 K ≠ 0 → ∀ x, x = odds n (dsw C) → ∀ a b, a = (if dsw C < 2 then w else v) → b = (if dsw C % 2 = 0 then w else v) → cI (tWs [7, 8] []) mX0_walks (d - 1) [(2, 1), (0, a), (0, b), (0, (K : Int)), (0, t)] m (fun r m17 => (r = -1 → hLo WD μ mX0_apart d (fun r _ => r = sm (dr_i ν w v n t k) 64) 242 [(0, 2, 1), (1, 0, w), (2, 0, v), (3, 0, n), (4, 0, t), (5, 0, (k : Int)), (6, 0, (i : Int)), (7, 0, (K : Int)), (8, 0, (C : Int))] [] m17) ∧ (r ≠ -1 → (0 ≤ r ∧ r < 64) ∧ ((∀ m22, m22 = tm_w m17 49 r (w64 ((tm_v m17 49 r) + (w64 ((tm_v m17 48 K) * x)))) → hLo WD μ mX0_apart d (fun r _ => r = sm (dr_i ν w v n t k) 64) 242 [(0, 2, 1), (1, 0, w), (2, 0, v), (3, 0, n), (4, 0, t), (5, 0, (k : Int)), (6, 0, (i : Int)), (7, 0, (K : Int)), (8, 0, (C : Int))] [] m22)))) := by
        intro hne x hx a b ea eb
        subst hx; subst ea; subst eb
        rw [e48] at hne
        have hp := (h0 K (by omega) (by omega)).2 hne
        have hww := dr_w (c := dsw C) hw hv
        have ho := odds_in hn (dsw C)
        have hmul := mul_bd (x := dr_i ν w v n t i K) (y := odds n (dsw C)) (a := dr_i ν w v n t i K) (b := 256) ⟨hKb.1, Int.le_refl _⟩ ho
        refine tC.I (pX0_walks (by omega) hm.S (JU_F hJ hm hT) (JV_F hJ hV hm hT hC) hww.1 hww.2 (by omega) hp.1 hp.2 (by omega)) (fun r m2 f2 hr => ?_)
        have er : r = dr_c ν w v t K (dsw C) := hr
        have hin := dr_c_in (t := t) (k := (K : Int)) (c := dsw C) hw hv hp.1 hp.2
        rw [← er] at hin
        have F2 := hm.tr f2 (tWs_sub rfl)
        have u48 : ∀ j, tm_v m2 48 j = tm_v m 48 j := fun j => f2.v (tWs_no _ rfl)
        have u49 : ∀ j, tm_v m2 49 j = tm_v m 49 j := fun j => f2.v (tWs_no _ rfl)
        refine ⟨fun c => nx m2 F2 (fun j j0 j1 => by rw [u48]; exact h48 j j0 j1) (fun j j0 j1 => ?_), fun c => ?_⟩
        · rw [u49]
          unfold dr_t
          rw [if_neg (by rw [← er]; omega), Int.add_zero]
        · have r64 : 0 ≤ r ∧ r < 64 := by
            rcases hin with q | ⟨p', q', hp', hq', e⟩
            · exact absurd q c
            · have := y_p8 hp'; have := y_p8 hq'; omega
          refine ⟨r64, fun m22 e22 => ?_⟩
          rw [u49, u48, e48, w64_id (x := dr_i ν w v n t i K * odds n (dsw C)) (by omega) (by omega)] at e22
          have b1 := pb r
          have b2 := qb r C (by omega)
          have b3 := h49 r r64.1 r64.2
          rw [w64_id (by omega) (by omega)] at e22
          refine nx m22 (by rw [e22]; exact w49 F2) (fun j j0 j1 => by rw [e22, tm_vw, if_neg (by omega), u48]; exact h48 j j0 j1) (fun j j0 j1 => ?_)
          rw [e22, tm_vw]
          unfold dr_t
          rw [← er]
          by_cases e : j = r
          · rw [if_pos ⟨rfl, e⟩, if_pos e.symm, e]
          · rw [if_neg (fun q => e q.2), if_neg (fun q => e q.symm), u49, Int.add_zero]
      have h16 : w32 (16 - n) = 16 - n := w32_id (by omega) (by omega)
      have hnn := mul_bd hn hn
      have hnm := mul_bd hn (show 0 ≤ 16 - n ∧ 16 - n ≤ 16 by omega)
      have hmm := mul_bd (show 0 ≤ 16 - n ∧ 16 - n ≤ 16 by omega) (show 0 ≤ 16 - n ∧ 16 - n ≤ 16 by omega)
      have hmn := mul_bd (show 0 ≤ 16 - n ∧ 16 - n ≤ 16 by omega) hn
      refine uX0_apart_121 (by omega) hm ⟨fun c => by omega, fun _ => ⟨by omega, fun c => ?_, fun c => ?_⟩⟩
      · -- nobody is there
        have hz : dr_i ν w v n t i K = 0 := by omega
        refine kk m hm h48 (fun j j0 j1 => ?_)
        have z1 : ∀ c, dr_t ν w v n t (dr_i ν w v n t i) j K c = 0 := fun c => by unfold dr_t; rw [hz]; split <;> omega
        have e1 := sm_z (f := fun c => dr_t ν w v n t (dr_i ν w v n t i) j K (dsw c)) (n := C) (fun c _ => z1 _)
        have e2 := sm_z (f := dr_t ν w v n t (dr_i ν w v n t i) j K) (n := 4) (fun c _ => z1 _)
        rw [h49 j j0 j1, sm, e1, e2]
      · rw [h16, w64_id (x := (16 - n) * (16 - n)) (by omega) (by omega), w64_id (x := (16 - n) * n) (by omega) (by omega), w64_id (x := n * (16 - n)) (by omega) (by omega), w64_id (x := n * n) (by omega) (by omega)]
        have hc4 : C = 0 ∨ C = 1 ∨ C = 2 ∨ C = 3 := by omega
        have hne : tm_v m 48 K ≠ 0 := by omega
        rcases hc4 with e | e | e | e <;> subst e
        · have ho : odds n (dsw ((0 : Nat) : Int)) = n * n := rfl
          refine ⟨fun h => absurd rfl h, fun _ => ⟨fun h => absurd h (by decide), fun _ x hx => ⟨fun _ => ⟨fun h => absurd rfl h, fun _ => ⟨fun h => absurd h (by decide), fun _ => wlk hne x (by rw [ho]; exact hx) w w rfl rfl⟩⟩, fun h => zero (by rw [ho, ← hx]; exact h)⟩⟩⟩
        · have ho : odds n (dsw ((1 : Nat) : Int)) = (16 - n) * n := rfl
          refine ⟨fun _ => ⟨fun h => absurd h (by decide), fun _ x hx => ⟨fun _ => ⟨fun _ => ⟨fun h => absurd h (by decide), fun _ => wlk hne x (by rw [ho]; exact hx) v w rfl rfl⟩, fun h => absurd h (by decide)⟩, fun h => zero (by rw [ho, ← hx]; exact h)⟩⟩, fun h => absurd h (by decide)⟩
        · have ho : odds n (dsw ((2 : Nat) : Int)) = n * (16 - n) := rfl
          refine ⟨fun h => absurd rfl h, fun _ => ⟨fun _ x hx => ⟨fun _ => ⟨fun h => absurd rfl h, fun _ => ⟨fun _ => wlk hne x (by rw [ho]; exact hx) w v rfl rfl, fun h => absurd h (by decide)⟩⟩, fun h => zero (by rw [ho, ← hx]; exact h)⟩, fun h => absurd h (by decide)⟩⟩
        · have ho : odds n (dsw ((3 : Nat) : Int)) = (16 - n) * (16 - n) := rfl
          refine ⟨fun _ => ⟨fun _ x hx => ⟨fun _ => ⟨fun _ => ⟨fun _ => wlk hne x (by rw [ho]; exact hx) v v rfl rfl, fun h => absurd h (by decide)⟩, fun h => absurd h (by decide)⟩, fun h => zero (by rw [ho, ← hx]; exact h)⟩, fun h => absurd h (by decide)⟩, fun h => absurd h (by decide)⟩
  -- a time
  have pairs : ∀ (i : Nat), i < 5 → (∀ m', tFr WD μ m' → (∀ j, 0 ≤ j → j < 64 → tm_v m' 48 j = dr_i ν w v n t (i + 1) j) → hLo WD μ mX0_apart d (fun r _ => r = sm (dr_i ν w v n t k) 64) 77 [(0, 2, 1), (1, 0, w), (2, 0, v), (3, 0, n), (4, 0, t), (5, 0, (k : Int)), (6, 0, ((i + 1 : Nat) : Int))] [] m') → ∀ (q K : Nat) (m : tm_M), K + q = 64 → tFr WD μ m → (∀ j, 0 ≤ j → j < 64 → tm_v m 48 j = dr_i ν w v n t i j) → (∀ j, 0 ≤ j → j < 64 → tm_v m 49 j = sm (fun z => sm (dr_t ν w v n t (dr_i ν w v n t i) j z) 4) K) → hLo WD μ mX0_apart d (fun r _ => r = sm (dr_i ν w v n t k) 64) 111 [(0, 2, 1), (1, 0, w), (2, 0, v), (3, 0, n), (4, 0, t), (5, 0, (k : Int)), (6, 0, (i : Int)), (7, 0, (K : Int))] [] m := by
    intro i hi kk q
    have ei : w32 ((i : Int) + 1) = ((i + 1 : Nat) : Int) := by rw [w32_id (by omega) (by omega)]; omega
    induction q with
    | zero =>
      intro K m hK hm h48 h49
      refine uX0_apart_111 hm ⟨fun _ m3 e3 => ?_, fun c => by omega⟩
      rw [ei]
      refine kk m3 (by rw [e3]; exact hm.c (fun q => tWs_in _ rfl) (tS_c hm.S sf_48 _ _ _ _)) (fun j j0 j1 => ?_)
      rw [e3, tm_vc, if_pos ⟨rfl, by omega⟩, show (0 : Int) + (j - 0) = j by omega, h49 j j0 j1, show K = 64 by omega]
      rfl
    | succ q ih =>
      intro K m hK hm h48 h49
      have eK : w32 ((K : Int) + 1) = ((K + 1 : Nat) : Int) := by rw [w32_id (by omega) (by omega)]; omega
      refine uX0_apart_111 hm ⟨fun c => by omega, fun _ => ?_⟩
      refine draws i (fun _ => True) hi K (by omega) 4 0 m rfl hm h48 (fun j j0 j1 => by rw [h49 j j0 j1, sm, Int.add_zero]) (fun m' g1 g2 g3 => ?_)
      refine uX0_apart_248 g1 ?_
      rw [eK]
      exact ih (K + 1) m' (by omega) g1 g2 g3
  have clear : ∀ (i : Nat), i < 5 → (∀ m', tFr WD μ m' → (∀ j, 0 ≤ j → j < 64 → tm_v m' 48 j = dr_i ν w v n t (i + 1) j) → hLo WD μ mX0_apart d (fun r _ => r = sm (dr_i ν w v n t k) 64) 77 [(0, 2, 1), (1, 0, w), (2, 0, v), (3, 0, n), (4, 0, t), (5, 0, (k : Int)), (6, 0, ((i + 1 : Nat) : Int))] [] m') → ∀ (q : Nat) (z : Int) (m : tm_M), 0 ≤ z → z + q = 64 → tFr WD μ m → (∀ j, 0 ≤ j → j < 64 → tm_v m 48 j = dr_i ν w v n t i j) → (∀ j, 0 ≤ j → j < z → tm_v m 49 j = 0) → hLo WD μ mX0_apart d (fun r _ => r = sm (dr_i ν w v n t k) 64) 87 [(0, 2, 1), (1, 0, w), (2, 0, v), (3, 0, n), (4, 0, t), (5, 0, (k : Int)), (6, 0, (i : Int)), (7, 0, z)] [] m := by
    intro i hi kk q
    induction q with
    | zero =>
      intro z m z0 hz hm h48 h49
      exact uX0_apart_87 hm ⟨fun _ => pairs i hi kk 64 0 m rfl hm h48 (fun j j0 j1 => by rw [h49 j j0 (by omega), sm]), fun c => by omega⟩
    | succ q ih =>
      intro z m z0 hz hm h48 h49
      refine uX0_apart_87 hm ⟨fun c => by omega, fun _ => ⟨by omega, fun m4 e4 => ?_⟩⟩
      rw [w32_id (x := z + 1) (by omega) (by omega)]
      refine ih (z + 1) m4 (by omega) (by omega) (by rw [e4]; exact w49 hm) (fun j j0 j1 => by rw [e4, tm_vw, if_neg (by omega)]; exact h48 j j0 j1) (fun j j0 j1 => ?_)
      rw [e4, tm_vw]
      by_cases e : j = z
      · rw [if_pos ⟨rfl, e⟩]
      · rw [if_neg (fun q => e q.2)]; exact h49 j j0 (by omega)
  have times : ∀ (q i : Nat) (m : tm_M), i + q = k → tFr WD μ m → (∀ j, 0 ≤ j → j < 64 → tm_v m 48 j = dr_i ν w v n t i j) → hLo WD μ mX0_apart d (fun r _ => r = sm (dr_i ν w v n t k) 64) 77 [(0, 2, 1), (1, 0, w), (2, 0, v), (3, 0, n), (4, 0, t), (5, 0, (k : Int)), (6, 0, (i : Int))] [] m := by
    intro q
    induction q with
    | zero =>
      intro i m hq hm h48
      have ei : i = k := by omega
      subst ei
      exact uX0_apart_77 hm ⟨fun _ => fin m hm h48 64 0 rfl, fun c => by omega⟩
    | succ q ih =>
      intro i m hq hm h48
      exact uX0_apart_77 hm ⟨fun c => by omega, fun _ => clear i (by omega) (fun m' g1 g2 => ih (i + 1) m' (by omega) g1 g2) 64 0 m (by omega) (by omega) hm h48 (fun j j0 j1 => by omega)⟩
  have begins : ∀ (q : Nat) (z : Int) (m : tm_M), 0 ≤ z → z + q = 64 → tFr WD μ m → (∀ j, 0 ≤ j → j < z → tm_v m 48 j = dr_0 ν j) → hLo WD μ mX0_apart d (fun r _ => r = sm (dr_i ν w v n t k) 64) 3 [(0, 2, 1), (1, 0, w), (2, 0, v), (3, 0, n), (4, 0, t), (5, 0, (k : Int)), (6, 0, z)] [] m := by
    intro q
    induction q with
    | zero =>
      intro z m z0 hz hm h48
      exact uX0_apart_3 (ν := ν) (by omega) hm ⟨fun _ => times k 0 m (by omega) hm (fun j j0 j1 => h48 j j0 (by omega)), fun c => by omega⟩
    | succ q ih =>
      intro z m z0 hz hm h48
      have etd : w32 (z.tdiv 8) = z / 8 := by rw [Int.tdiv_eq_ediv_of_nonneg z0, w32_id (by omega) (by omega)]
      have etm : z.tmod 8 = z % 8 := Int.tmod_eq_emod_of_nonneg z0
      have nx : ∀ x m9, m9 = tm_w m 48 z x → x = dr_0 ν z → hLo WD μ mX0_apart d (fun r _ => r = sm (dr_i ν w v n t k) 64) 3 [(0, 2, 1), (1, 0, w), (2, 0, v), (3, 0, n), (4, 0, t), (5, 0, (k : Int)), (6, 0, w32 (z + 1))] [] m9 := by
        intro x m9 e9 hx
        rw [w32_id (x := z + 1) (by omega) (by omega)]
        refine ih (z + 1) m9 (by omega) (by omega) (by rw [e9]; exact w48 hm) (fun j j0 j1 => ?_)
        rw [e9, tm_vw]
        by_cases e : j = z
        · rw [if_pos ⟨rfl, e⟩, e]; exact hx
        · rw [if_neg (fun q => e q.2)]; exact h48 j j0 (by omega)
      refine uX0_apart_3 (ν := ν) (by omega) hm ⟨fun c => by omega, fun _ => ?_⟩
      rw [etd, etm]
      rintro _ rfl _ rfl
      refine ⟨hJ, fun c => ⟨by omega, fun m9 e9 => nx 0 m9 e9 (by unfold dr_0; rw [if_neg (by omega)])⟩, fun ca => ⟨fun c => ⟨by omega, fun m9 e9 => nx 0 m9 e9 (by unfold dr_0; rw [if_neg (by omega)])⟩, fun cb => ⟨fun c => ⟨by omega, fun m9 e9 => nx 0 m9 e9 (by unfold dr_0; rw [if_neg (fun q => q.2 c)])⟩, fun c => ⟨⟨hJ, ⟨hW, ca⟩, ⟨hW, cb⟩⟩, by omega, fun m9 e9 => nx _ m9 e9 (by unfold dr_0; rw [if_pos ⟨⟨ca.2, cb.2⟩, c⟩])⟩⟩⟩⟩
  exact t_of (uX0_apart_0 (tFr.rf hs) (begins 64 0 μ (by omega) (by omega) (tFr.rf hs) (fun j j0 j1 => by omega)))
end C0T
