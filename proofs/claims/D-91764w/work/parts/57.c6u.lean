/-! CONTRACTS of the model: three who hold on -/
section C6U
variable {d : Nat} {μ μ0 : tm_M} {W : Int → Int → Prop}
def hd1 (m : tm_M) : Int := if tm_v m 85 0 = tm_v m 85 1 then tm_v m 99 0 else tm_v m 99 1
def hd2 (m : tm_M) : Int := if tm_v m 85 1 = tm_v m 85 2 then hd1 m else if tm_v m 85 0 = tm_v m 85 2 then tm_v m 99 0 else tm_v m 99 2
theorem pX6_holds (hs : tS μ) : cI wX6_holds mX6_holds d [(2, 65)] μ (fun r m => r = b2i (tm_v μ 85 0 = tm_v μ 85 1 ∧ tm_v μ 85 1 = tm_v μ 85 2) ∧ tm_v m 99 0 = tm_v μ 99 0 ∧ tm_v m 99 1 = hd1 μ ∧ tm_v m 99 2 = hd2 μ) := by
  have s3 : ∀ m, tFr wX6_holds μ m → (tm_v m 99 0 = tm_v μ 99 0 ∧ tm_v m 99 1 = hd1 μ ∧ tm_v m 99 2 = hd2 μ) → hI wX6_holds μ mX6_holds d (fun r m => r = b2i (tm_v μ 85 0 = tm_v μ 85 1 ∧ tm_v μ 85 1 = tm_v μ 85 2) ∧ tm_v m 99 0 = tm_v μ 99 0 ∧ tm_v m 99 1 = hd1 μ ∧ tm_v m 99 2 = hd2 μ) 2 [(0, 2, 65), (1, 0, 3)] [] m := by
    intro m hm h
    refine uX6_holds_2 hm ⟨fun _ => ⟨fun c => ⟨?_, h⟩, fun c => ⟨fun c2 => ⟨?_, h⟩, fun c2 => ⟨?_, h⟩⟩⟩, fun c => absurd c (by decide)⟩
    · rw [b2i_f (fun q => c q.1)]
    · rw [b2i_f (fun q => c2 q.2)]
    · rw [b2i_t ⟨c, c2⟩]
  have s2 : ∀ m, tFr wX6_holds μ m → (tm_v m 99 0 = tm_v μ 99 0 ∧ tm_v m 99 1 = hd1 μ ∧ tm_v m 99 2 = hd2 μ) → hI wX6_holds μ mX6_holds d (fun r m => r = b2i (tm_v μ 85 0 = tm_v μ 85 1 ∧ tm_v μ 85 1 = tm_v μ 85 2) ∧ tm_v m 99 0 = tm_v μ 99 0 ∧ tm_v m 99 1 = hd1 μ ∧ tm_v m 99 2 = hd2 μ) 2 [(0, 2, 65), (1, 0, 2)] [] m := by
    intro m hm h
    refine uX6_holds_2 hm ⟨fun c => absurd c (by decide), fun _ x hx => ?_⟩
    rw [show w32 (2 + 1) = 3 by decide] at hx
    subst hx
    refine uX6_holds_11 hm ⟨fun _ => ?_, fun c => absurd c (by decide)⟩
    rw [show w32 (2 + 1) = 3 by decide]
    exact s3 m hm h
  have s12 : ∀ m, tFr wX6_holds μ m → (tm_v m 99 0 = tm_v μ 99 0 ∧ tm_v m 99 1 = hd1 μ ∧ tm_v m 99 2 = if tm_v μ 85 0 = tm_v μ 85 2 then tm_v μ 99 0 else tm_v μ 99 2) → hI wX6_holds μ mX6_holds d (fun r m => r = b2i (tm_v μ 85 0 = tm_v μ 85 1 ∧ tm_v μ 85 1 = tm_v μ 85 2) ∧ tm_v m 99 0 = tm_v μ 99 0 ∧ tm_v m 99 1 = hd1 μ ∧ tm_v m 99 2 = hd2 μ) 2 [(0, 2, 65), (1, 0, 1)] [] m := by
    intro m hm h
    refine uX6_holds_2 hm ⟨fun c => absurd c (by decide), fun _ x hx => ?_⟩
    rw [show w32 (1 + 1) = 2 by decide] at hx
    subst hx
    have nx : ∀ m, tFr wX6_holds μ m → (tm_v m 99 0 = tm_v μ 99 0 ∧ tm_v m 99 1 = hd1 μ ∧ tm_v m 99 2 = hd2 μ) → hI wX6_holds μ mX6_holds d (fun r m => r = b2i (tm_v μ 85 0 = tm_v μ 85 1 ∧ tm_v μ 85 1 = tm_v μ 85 2) ∧ tm_v m 99 0 = tm_v μ 99 0 ∧ tm_v m 99 1 = hd1 μ ∧ tm_v m 99 2 = hd2 μ) 11 [(0, 2, 65), (1, 0, 1), (2, 0, w32 (2 + 1))] [] m := by
      intro m hm h
      rw [show w32 (2 + 1) = 3 by decide]
      refine uX6_holds_11 hm ⟨fun _ => ?_, fun c => absurd c (by decide)⟩
      rw [show w32 (1 + 1) = 2 by decide]
      exact s2 m hm h
    refine uX6_holds_11 hm ⟨fun c => absurd c (by decide), fun _ => ⟨by decide, by decide, fun c => nx m hm ⟨h.1, h.2.1, ?_⟩, fun c m' e' => nx m' ?_ ⟨?_, ?_, ?_⟩⟩⟩
    · unfold hd2; rw [if_neg c]; exact h.2.2
    · rw [e']; exact hm.w (tWs_in _ rfl) (tS_w hm.S sf_99 _ _)
    · rw [e', tm_vw, if_neg (by omega)]; exact h.1
    · rw [e', tm_vw, if_neg (by omega)]; exact h.2.1
    · rw [e', tm_vw, if_pos ⟨rfl, rfl⟩, h.2.1]; unfold hd2; rw [if_pos c]
  have s02 : ∀ m, tFr wX6_holds μ m → (tm_v m 99 0 = tm_v μ 99 0 ∧ tm_v m 99 1 = hd1 μ ∧ tm_v m 99 2 = tm_v μ 99 2) → hI wX6_holds μ mX6_holds d (fun r m => r = b2i (tm_v μ 85 0 = tm_v μ 85 1 ∧ tm_v μ 85 1 = tm_v μ 85 2) ∧ tm_v m 99 0 = tm_v μ 99 0 ∧ tm_v m 99 1 = hd1 μ ∧ tm_v m 99 2 = hd2 μ) 11 [(0, 2, 65), (1, 0, 0), (2, 0, w32 (1 + 1))] [] m := by
    intro m hm h
    rw [show w32 (1 + 1) = 2 by decide]
    have nx : ∀ m, tFr wX6_holds μ m → (tm_v m 99 0 = tm_v μ 99 0 ∧ tm_v m 99 1 = hd1 μ ∧ tm_v m 99 2 = if tm_v μ 85 0 = tm_v μ 85 2 then tm_v μ 99 0 else tm_v μ 99 2) → hI wX6_holds μ mX6_holds d (fun r m => r = b2i (tm_v μ 85 0 = tm_v μ 85 1 ∧ tm_v μ 85 1 = tm_v μ 85 2) ∧ tm_v m 99 0 = tm_v μ 99 0 ∧ tm_v m 99 1 = hd1 μ ∧ tm_v m 99 2 = hd2 μ) 11 [(0, 2, 65), (1, 0, 0), (2, 0, w32 (2 + 1))] [] m := by
      intro m hm h
      rw [show w32 (2 + 1) = 3 by decide]
      refine uX6_holds_11 hm ⟨fun _ => ?_, fun c => absurd c (by decide)⟩
      rw [show w32 (0 + 1) = 1 by decide]
      exact s12 m hm h
    refine uX6_holds_11 hm ⟨fun c => absurd c (by decide), fun _ => ⟨by decide, by decide, fun c => nx m hm ⟨h.1, h.2.1, ?_⟩, fun c m' e' => nx m' ?_ ⟨?_, ?_, ?_⟩⟩⟩
    · rw [if_neg c]; exact h.2.2
    · rw [e']; exact hm.w (tWs_in _ rfl) (tS_w hm.S sf_99 _ _)
    · rw [e', tm_vw, if_neg (by omega)]; exact h.1
    · rw [e', tm_vw, if_neg (by omega)]; exact h.2.1
    · rw [e', tm_vw, if_pos ⟨rfl, rfl⟩, h.1, if_pos c]
  refine t_of (uX6_holds_0 (tFr.rf hs) (uX6_holds_2 (tFr.rf hs) ⟨fun c => absurd c (by decide), fun _ x hx => ?_⟩))
  rw [show w32 (0 + 1) = 1 by decide] at hx
  subst hx
  refine uX6_holds_11 (tFr.rf hs) ⟨fun c => absurd c (by decide), fun _ => ⟨by decide, by decide, fun c => s02 μ (tFr.rf hs) ⟨rfl, ?_, rfl⟩, fun c m' e' => s02 m' ?_ ⟨?_, ?_, ?_⟩⟩⟩
  · unfold hd1; rw [if_neg c]
  · rw [e']; exact (tFr.rf hs).w (tWs_in _ rfl) (tS_w hs sf_99 _ _)
  · rw [e', tm_vw, if_neg (by omega)]
  · rw [e', tm_vw, if_pos ⟨rfl, rfl⟩]; unfold hd1; rw [if_pos c]
  · rw [e', tm_vw, if_neg (by omega)]
/-- one who walks: place, steps done, mood -/
abbrev W1 : Type := Int × Int × Int
def w1_s (μ : tm_M) (x : Int) (a : W1) : W1 := (y_go μ a.1 (y_stp μ x a.1 a.2.1 a.2.2), a.2.1 + 1, y_md μ x a.1 a.2.2)
def w3_b (μ : tm_M) (y : Int) (a a' b : W1) : W1 := if a.1 = b.1 then (a'.1, b.2) else w1_s μ y b
def w3_c (μ : tm_M) (z : Int) (a b a' b' c : W1) : W1 := if a.1 = c.1 then (a'.1, c.2) else if b.1 = c.1 then (b'.1, c.2) else w1_s μ z c
def y_3r (μ : tm_M) (x y z : Int) : Nat → Int → W1 → W1 → W1 → Int
  | 0, t, a, b, c => if a.1 = b.1 ∧ b.1 = c.1 then t else -1
  | n + 1, t, a, b, c => if a.1 = b.1 ∧ b.1 = c.1 then t else y_3r μ x y z n (t + 1) (w1_s μ x a) (w3_b μ y a (w1_s μ x a) b) (w3_c μ z a b (w1_s μ x a) (w3_b μ y a (w1_s μ x a) b) c)
def y_3 (μ : tm_M) (x y z b : Int) : Int := y_3r μ x y z 200 0 (b / 100, 0, 0) (b / 10 % 10, 0, 0) (b % 10, 0, 0)
def w1_ok (μ : tm_M) (t : Int) (a : W1) : Prop := y_p μ a.1 ∧ (0 ≤ a.2.1 ∧ a.2.1 ≤ t) ∧ 0 ≤ a.2.2 ∧ a.2.2 ≤ 2
theorem w1_s_ok {x t : Int} {a : W1} (hx : y_v μ x) (h : w1_ok μ t a) : w1_ok μ (t + 1) (w1_s μ x a) := ⟨y_go_p h.1, by unfold w1_s; have := h.2.1; dsimp only; omega, (y_stp_in hx h.1 h.2.1.1 h.2.2).2⟩
theorem w1_c_ok {t : Int} {a b : W1} (ha : w1_ok μ (t + 1) a) (h : w1_ok μ t b) : w1_ok μ (t + 1) (a.1, b.2) := ⟨ha.1, by have := h.2.1; dsimp only; omega, h.2.2⟩
theorem w3_b_ok {y t : Int} {a a' b : W1} (hy : y_v μ y) (ha : w1_ok μ (t + 1) a') (h : w1_ok μ t b) : w1_ok μ (t + 1) (w3_b μ y a a' b) := by
  unfold w3_b; split
  · exact w1_c_ok ha h
  · exact w1_s_ok hy h
theorem w3_c_ok {z t : Int} {a b a' b' c : W1} (hz : y_v μ z) (ha : w1_ok μ (t + 1) a') (hb : w1_ok μ (t + 1) b') (h : w1_ok μ t c) : w1_ok μ (t + 1) (w3_c μ z a b a' b' c) := by
  unfold w3_c; split
  · exact w1_c_ok ha h
  · split
    · exact w1_c_ok hb h
    · exact w1_s_ok hz h
theorem y_3r_in {x y z : Int} (n : Nat) : ∀ t a b c, 0 ≤ t → y_3r μ x y z n t a b c = -1 ∨ t ≤ y_3r μ x y z n t a b c := by
  induction n with
  | zero => intro t a b c _; rw [y_3r]; split; exact Or.inr (Int.le_refl _); exact Or.inl rfl
  | succ n ih =>
    intro t a b c h
    rw [y_3r]
    split
    · exact Or.inr (Int.le_refl _)
    · rcases ih (t + 1) (w1_s μ x a) (w3_b μ y a (w1_s μ x a) b) (w3_c μ z a b (w1_s μ x a) (w3_b μ y a (w1_s μ x a) b) c) (by omega) with h | h
      · exact Or.inl h
      · right; omega
/-- the model's cells hold one who walks -/
def w1_in (m : tm_M) (i : Int) (a : W1) : Prop := tm_v m 85 i = a.1 ∧ tm_v m 86 i = a.2.1 ∧ tm_v m 87 i = a.2.2
def r_three (μ : tm_M) (x y z b : Int) : Int × Int := if ¬ (0 ≤ x ∧ x < tm_v μ 65 43) ∨ ¬ (0 ≤ y ∧ y < tm_v μ 65 43) ∨ ¬ (0 ≤ z ∧ z < tm_v μ 65 43) ∨ b < 0 ∨ ¬ (b / 100 < tm_v μ 65 20) ∨ ¬ (b / 10 % 10 < tm_v μ 65 20) ∨ ¬ (b % 10 < tm_v μ 65 20) then (-1, 2) else if y_3 μ x y z b < 0 then (-1, 8) else (y_3 μ x y z b, 0)
theorem pX6_three {x y z b : Int} (hd : 4 ≤ d) (hs : tS μ) (hW : y_W μ) (hV : y_V μ) : cI wX6_three mX6_three d [(2, 65), (0, x), (0, y), (0, z), (0, b)] μ (fun r m => (r, tm_v m 65 0) = r_three μ x y z b) := by
  have h20 := hW.1
  have hT : y_T wX6_three := tWs_T rfl
  have f2 : tFr wX6_three μ (tm_w (tm_w μ 65 1 0) 65 0 0) := fr_st (tFr.rf hs) (tWs_inF rfl) (tWs_inF rfl) 0
  refine t_of (uX6_three_0 (by omega) (tFr.rf hs) ?_)
  rintro _ rfl m2 e2
  rw [← e2] at f2
  have bad : ∀ m', m' = tm_w m2 65 0 2 → (¬ (0 ≤ x ∧ x < tm_v μ 65 43) ∨ ¬ (0 ≤ y ∧ y < tm_v μ 65 43) ∨ ¬ (0 ≤ z ∧ z < tm_v μ 65 43) ∨ b < 0 ∨ ¬ (b / 100 < tm_v μ 65 20) ∨ ¬ (b / 10 % 10 < tm_v μ 65 20) ∨ ¬ (b % 10 < tm_v μ 65 20)) → ((-1 : Int), tm_v m' 65 0) = r_three μ x y z b := by
    rintro m' rfl h
    unfold r_three
    rw [if_pos h]; rfl
  refine ⟨hV, fun c m' e' => bad m' e' (Or.inl c), fun cx => ⟨fun c m' e' => bad m' e' (Or.inr (Or.inl c)), fun cy => ⟨fun c m' e' => bad m' e' (Or.inr (Or.inr (Or.inl c))), fun cz => ⟨fun c m' e' => bad m' e' (by omega), fun cb => ?_⟩⟩⟩⟩
  have t1 : w32 (b.tdiv 100) = b / 100 := by rw [Int.tdiv_eq_ediv_of_nonneg (by omega), w32_id (by omega) (by omega)]
  have t2 : (w32 (b.tdiv 10)).tmod 10 = b / 10 % 10 := by rw [Int.tdiv_eq_ediv_of_nonneg (by omega), w32_id (by omega) (by omega), Int.tmod_eq_emod_of_nonneg (by omega)]
  have t3 : b.tmod 10 = b % 10 := Int.tmod_eq_emod_of_nonneg (by omega)
  rw [t1, t2, t3]
  refine ⟨hW, fun c m' e' => bad m' e' (by omega), fun c1 => ⟨fun c m' e' => bad m' e' (by omega), fun c2 => ⟨fun c3 => ?_, fun c m' e' => bad m' e' (by omega)⟩⟩⟩
  have hx : y_v μ x := ⟨hV, cx⟩
  have hy : y_v μ y := ⟨hV, cy⟩
  have hz : y_v μ z := ⟨hV, cz⟩
  unfold r_three
  rw [if_neg (by omega)]
  -- the ticks; who hold on are told by their places
  have led : ∀ m m' : tm_M, ∀ a b c : W1, tm_v m 85 0 = a.1 → tm_v m 85 1 = b.1 → tm_v m 85 2 = c.1 → tm_v m 99 0 = 0 → (tm_v m 99 1 = 1 ∨ a.1 = b.1) → (tm_v m 99 2 = 2 ∨ a.1 = c.1 ∨ b.1 = c.1) →
      tm_v m' 99 1 = hd1 m → tm_v m' 99 2 = hd2 m → tm_v m' 99 1 = (if a.1 = b.1 then 0 else 1) ∧ tm_v m' 99 2 = if a.1 = c.1 then 0 else if b.1 = c.1 then 1 else 2 := by
    intro m m' a b c h0 h1 h2 l0 l1 l2 e1 e2
    unfold hd2 at e2
    unfold hd1 at e1 e2
    rw [h0, h1, l0] at e1
    rw [h0, h1, h2, l0] at e2
    rw [e1, e2]
    constructor
    · split
      · rfl
      · rcases l1 with h | h
        · exact h
        · exact absurd h ‹_›
    · by_cases c1 : a.1 = b.1 <;> by_cases c2 : b.1 = c.1 <;> by_cases c3 : a.1 = c.1 <;> simp only [c1, c2, c3, if_true, if_false] <;> first | rfl | omega | skip
  have ticks : ∀ (n : Nat) (t : Int) (a b c : W1) (m : tm_M), 0 ≤ t → t + n = 200 → tFr wX6_three μ m → tm_v m 65 0 = 0 → tm_v m 100 0 = x → tm_v m 100 1 = y → tm_v m 100 2 = z → w1_ok μ t a → w1_ok μ t b → w1_ok μ t c → w1_in m 0 a → w1_in m 1 b → w1_in m 2 c → tm_v m 99 0 = 0 → tm_v m 99 1 = (if a.1 = b.1 then 0 else 1) → tm_v m 99 2 = (if a.1 = c.1 then 0 else if b.1 = c.1 then 1 else 2) → ¬ (a.1 = b.1 ∧ b.1 = c.1) →
      hI wX6_three μ mX6_three d (fun r m => (r, tm_v m 65 0) = if y_3r μ x y z n t a b c < 0 then (-1, 8) else (y_3r μ x y z n t a b c, 0)) 182 [(0, 2, 65), (5, 0, t)] [] m := by
    intro n
    induction n with
    | zero =>
      intro t a b c m t0 tn hm hz0 o1 o2 o3 ka kb kc ia ib ic l0 l1 l2 hne
      refine uX6_three_182 (by omega) hm ⟨fun _ => ?_, fun c2 => by omega⟩
      rintro _ rfl
      rw [y_3r, if_neg hne, if_pos (by decide)]
      rfl
    | succ n ih =>
      intro t a b c m t0 tn hm hz0 o1 o2 o3 ka kb kc ia ib ic l0 l1 l2 hne
      rw [y_3r, if_neg hne]
      have ka' := w1_s_ok hx ka
      have kb' := w3_b_ok (a := a) hy ka' kb
      have kc' := w3_c_ok (a := a) (b := b) hz ka' kb' kc
      -- behind the third
      have fin : ∀ m', tFr wX6_three μ m' → tm_v m' 65 0 = 0 → tm_v m' 100 0 = x → tm_v m' 100 1 = y → tm_v m' 100 2 = z → w1_in m' 0 (w1_s μ x a) → w1_in m' 1 (w3_b μ y a (w1_s μ x a) b) → w1_in m' 2 (w3_c μ z a b (w1_s μ x a) (w3_b μ y a (w1_s μ x a) b) c) → tm_v m' 99 0 = 0 → tm_v m' 99 1 = (if a.1 = b.1 then 0 else 1) → tm_v m' 99 2 = (if a.1 = c.1 then 0 else if b.1 = c.1 then 1 else 2) → hI wX6_three μ mX6_three d (fun r m => (r, tm_v m 65 0) = if y_3r μ x y z n (t + 1) (w1_s μ x a) (w3_b μ y a (w1_s μ x a) b) (w3_c μ z a b (w1_s μ x a) (w3_b μ y a (w1_s μ x a) b) c) < 0 then (-1, 8) else (y_3r μ x y z n (t + 1) (w1_s μ x a) (w3_b μ y a (w1_s μ x a) b) (w3_c μ z a b (w1_s μ x a) (w3_b μ y a (w1_s μ x a) b) c), 0)) 193 [(0, 2, 65), (5, 0, t), (6, 0, 3)] [] m' := by
        intro m' hm' gz g1 g2 g3 ja jb jc n0 n1 n2
        refine uX6_three_193 (by omega) hm' ⟨fun _ => ?_, fun c2 => absurd c2 (by decide)⟩
        refine tC.I (pX6_holds hm'.S) ?_
        rintro r m3 f3 ⟨hr, q0, q1, q2⟩
        have fm3 := hm'.tr f3 (tWs_sub rfl)
        have hl := led m' m3 _ _ _ ja.1 jb.1 jc.1 n0 (by
          rw [n1]
          by_cases e : a.1 = b.1
          · right; unfold w3_b; rw [if_pos e]
          · left; rw [if_neg e]) (by
          rw [n2]
          by_cases e : a.1 = c.1
          · right; left; unfold w3_c; rw [if_pos e]
          · by_cases e2 : b.1 = c.1
            · right; right; unfold w3_c; rw [if_neg e, if_pos e2]
            · left; rw [if_neg e, if_neg e2]) q1 q2
        rw [ja.1, jb.1, jc.1] at hr
        rw [w32_id (x := t + 1) (by omega) (by omega)]
        have v85 : ∀ j, tm_v m3 85 j = tm_v m' 85 j := fun j => f3.v (tWs_no _ rfl)
        have v86 : ∀ j, tm_v m3 86 j = tm_v m' 86 j := fun j => f3.v (tWs_no _ rfl)
        have v87 : ∀ j, tm_v m3 87 j = tm_v m' 87 j := fun j => f3.v (tWs_no _ rfl)
        have v100 : ∀ j, tm_v m3 100 j = tm_v m' 100 j := fun j => f3.v (tWs_no _ rfl)
        have vz : tm_v m3 65 0 = 0 := by rw [f3.v (tWs_noF rfl)]; exact gz
        refine ⟨fun c2 => ?_, fun c2 => ?_⟩
        · rw [hr, b2i_0] at c2
          refine ih (t + 1) _ _ _ m3 (by omega) (by omega) fm3 vz (by rw [v100]; exact g1) (by rw [v100]; exact g2) (by rw [v100]; exact g3) ka' kb' kc' ?_ ?_ ?_ (by rw [q0]; exact n0) hl.1 hl.2 c2
          · exact ⟨by rw [v85]; exact ja.1, by rw [v86]; exact ja.2.1, by rw [v87]; exact ja.2.2⟩
          · exact ⟨by rw [v85]; exact jb.1, by rw [v86]; exact jb.2.1, by rw [v87]; exact jb.2.2⟩
          · exact ⟨by rw [v85]; exact jc.1, by rw [v86]; exact jc.2.1, by rw [v87]; exact jc.2.2⟩
        · rw [hr, b2i_1] at c2
          have e3 : y_3r μ x y z n (t + 1) (w1_s μ x a) (w3_b μ y a (w1_s μ x a) b) (w3_c μ z a b (w1_s μ x a) (w3_b μ y a (w1_s μ x a) b) c) = t + 1 := by
            cases n <;> rw [y_3r, if_pos c2]
          rw [e3, if_neg (by omega), vz]
      -- one's own step, or another's place
      have own : ∀ (i p : Int) (e : W1) (m' : tm_M), (0 ≤ i ∧ i < 3) → y_v μ p → tm_v m' 100 i = p → tFr wX6_three μ m' → w1_ok μ t e → w1_in m' i e → (∀ m'', tFr wX6_three μ m'' → (∀ j, tm_v m'' 99 j = tm_v m' 99 j) → (∀ j, tm_v m'' 100 j = tm_v m' 100 j) → tm_v m'' 65 0 = tm_v m' 65 0 → w1_in m'' i (w1_s μ p e) → (∀ j e', j ≠ i → w1_in m' j e' → w1_in m'' j e') → hI wX6_three μ mX6_three d (fun r m => (r, tm_v m 65 0) = if y_3r μ x y z n (t + 1) (w1_s μ x a) (w3_b μ y a (w1_s μ x a) b) (w3_c μ z a b (w1_s μ x a) (w3_b μ y a (w1_s μ x a) b) c) < 0 then (-1, 8) else (y_3r μ x y z n (t + 1) (w1_s μ x a) (w3_b μ y a (w1_s μ x a) b) (w3_c μ z a b (w1_s μ x a) (w3_b μ y a (w1_s μ x a) b) c), 0)) 193 [(0, 2, 65), (5, 0, t), (6, 0, w32 (i + 1))] [] m'') →
          cI wX6_stepOf mX6_stepOf (d - 1) [(2, 65), (0, tm_v m' 100 i), (0, i), (0, tm_v m' 85 i)] m' (fun r13 μ12 => (y_p μ (tm_v m' 85 i) ∧ 0 ≤ r13 ∧ r13 ≤ 4) ∧ ((∀ μ18, μ18 = tm_w μ12 85 i (y_go μ (tm_v m' 85 i) r13) → hI wX6_three μ mX6_three d (fun r m => (r, tm_v m 65 0) = if y_3r μ x y z n (t + 1) (w1_s μ x a) (w3_b μ y a (w1_s μ x a) b) (w3_c μ z a b (w1_s μ x a) (w3_b μ y a (w1_s μ x a) b) c) < 0 then (-1, 8) else (y_3r μ x y z n (t + 1) (w1_s μ x a) (w3_b μ y a (w1_s μ x a) b) (w3_c μ z a b (w1_s μ x a) (w3_b μ y a (w1_s μ x a) b) c), 0)) 193 [(0, 2, 65), (5, 0, t), (6, 0, w32 (i + 1))] [] μ18))) := by
        intro i p e m' hi hp e100 hm' ke je kk
        rw [e100, je.1]
        refine tC.I (pX6_stepOfF hm' hT hp ke.1 hi je.2.1 je.2.2 (by have := ke.2.1; omega) ke.2.2) ?_
        rintro r m3 f3 ⟨rfl, e3⟩
        have fm3 := hm'.tr f3 (tWs_sub rfl)
        refine ⟨⟨ke.1, (y_stp_in hp ke.1 ke.2.1.1 ke.2.2).1⟩, ?_⟩
        intro m4 e4
        have fm4 : tFr wX6_three μ m4 := by rw [e4]; exact fm3.w (tWs_in _ rfl) (tS_w fm3.S sf_85 _ _)
        refine kk m4 fm4 (fun j => ?_) (fun j => ?_) ?_ ⟨?_, ?_, ?_⟩ (fun j e' hj h => ⟨?_, ?_, ?_⟩)
        · rw [e4, e3]; simp [tm_vw]
        · rw [e4, e3]; simp [tm_vw]
        · rw [e4, e3]; simp [tm_vw]
        · rw [e4]; simp [tm_vw]; rfl
        · rw [e4, e3]; simp [tm_vw]; rfl
        · rw [e4, e3]; simp [tm_vw]; rfl
        · rw [e4, e3]; simp [tm_vw, hj]; exact h.1
        · rw [e4, e3]; simp [tm_vw, hj]; exact h.2.1
        · rw [e4, e3]; simp [tm_vw, hj]; exact h.2.2
      have third : ∀ m', tFr wX6_three μ m' → tm_v m' 65 0 = 0 → tm_v m' 100 0 = x → tm_v m' 100 1 = y → tm_v m' 100 2 = z → w1_in m' 0 (w1_s μ x a) → w1_in m' 1 (w3_b μ y a (w1_s μ x a) b) → w1_in m' 2 c → tm_v m' 99 0 = 0 → tm_v m' 99 1 = (if a.1 = b.1 then 0 else 1) → tm_v m' 99 2 = (if a.1 = c.1 then 0 else if b.1 = c.1 then 1 else 2) → hI wX6_three μ mX6_three d (fun r m => (r, tm_v m 65 0) = if y_3r μ x y z n (t + 1) (w1_s μ x a) (w3_b μ y a (w1_s μ x a) b) (w3_c μ z a b (w1_s μ x a) (w3_b μ y a (w1_s μ x a) b) c) < 0 then (-1, 8) else (y_3r μ x y z n (t + 1) (w1_s μ x a) (w3_b μ y a (w1_s μ x a) b) (w3_c μ z a b (w1_s μ x a) (w3_b μ y a (w1_s μ x a) b) c), 0)) 193 [(0, 2, 65), (5, 0, t), (6, 0, w32 (1 + 1))] [] m' := by
        intro m' hm' gz g1 g2 g3 ja jb jc n0 n1 n2
        rw [show w32 (1 + 1) = 2 by decide]
        refine uX6_three_193 (by omega) hm' ⟨fun c2 => absurd c2 (by decide), fun _ => ⟨by decide, fun c2 => ⟨?_, fun m4 e4 => ?_⟩, fun c2 => ?_⟩⟩
        · rw [n2]; split
          · decide
          · split <;> decide
        · rw [show w32 (2 + 1) = 3 by decide]
          have fm4 : tFr wX6_three μ m4 := by rw [e4]; exact hm'.w (tWs_in _ rfl) (tS_w hm'.S sf_85 _ _)
          refine fin m4 fm4 (by rw [e4]; simp [tm_vw]; exact gz) (by rw [e4]; simp [tm_vw]; exact g1) (by rw [e4]; simp [tm_vw]; exact g2) (by rw [e4]; simp [tm_vw]; exact g3) ⟨by rw [e4]; simp [tm_vw]; exact ja.1, by rw [e4]; simp [tm_vw]; exact ja.2.1, by rw [e4]; simp [tm_vw]; exact ja.2.2⟩ ⟨by rw [e4]; simp [tm_vw]; exact jb.1, by rw [e4]; simp [tm_vw]; exact jb.2.1, by rw [e4]; simp [tm_vw]; exact jb.2.2⟩ ?_ (by rw [e4]; simp [tm_vw]; exact n0) (by rw [e4]; simp [tm_vw]; exact n1) (by rw [e4]; simp [tm_vw]; exact n2)
          by_cases q1 : a.1 = c.1
          · rw [if_pos q1] at n2
            unfold w3_c
            rw [if_pos q1]
            refine ⟨?_, by rw [e4]; simp [tm_vw]; exact jc.2.1, by rw [e4]; simp [tm_vw]; exact jc.2.2⟩
            rw [e4, tm_vw, if_pos ⟨rfl, rfl⟩, n2]; exact ja.1
          · rw [if_neg q1] at n2
            by_cases q2 : b.1 = c.1
            · rw [if_pos q2] at n2
              unfold w3_c
              rw [if_neg q1, if_pos q2]
              refine ⟨?_, by rw [e4]; simp [tm_vw]; exact jc.2.1, by rw [e4]; simp [tm_vw]; exact jc.2.2⟩
              rw [e4, tm_vw, if_pos ⟨rfl, rfl⟩, n2]; exact jb.1
            · rw [if_neg q2] at n2; exact absurd n2 c2
        · have hc3 : w3_c μ z a b (w1_s μ x a) (w3_b μ y a (w1_s μ x a) b) c = w1_s μ z c := by
            rw [c2] at n2
            unfold w3_c
            by_cases q1 : a.1 = c.1
            · rw [if_pos q1] at n2; omega
            · rw [if_neg q1] at n2 ⊢
              by_cases q2 : b.1 = c.1
              · rw [if_pos q2] at n2; omega
              · rw [if_neg q2]
          refine own 2 z c m' (by decide) hz g3 hm' kc jc (fun m4 fm4 k1 k2 k3 k4 k5 => ?_)
          rw [show w32 (2 + 1) = 3 by decide]
          refine fin m4 fm4 (by rw [k3]; exact gz) (by rw [k2]; exact g1) (by rw [k2]; exact g2) (by rw [k2]; exact g3) (k5 0 _ (by decide) ja) (k5 1 _ (by decide) jb) ?_ (by rw [k1]; exact n0) (by rw [k1]; exact n1) (by rw [k1]; exact n2)
          rw [hc3]; exact k4
      have second : ∀ m', tFr wX6_three μ m' → tm_v m' 65 0 = 0 → tm_v m' 100 0 = x → tm_v m' 100 1 = y → tm_v m' 100 2 = z → w1_in m' 0 (w1_s μ x a) → w1_in m' 1 b → w1_in m' 2 c → tm_v m' 99 0 = 0 → tm_v m' 99 1 = (if a.1 = b.1 then 0 else 1) → tm_v m' 99 2 = (if a.1 = c.1 then 0 else if b.1 = c.1 then 1 else 2) → hI wX6_three μ mX6_three d (fun r m => (r, tm_v m 65 0) = if y_3r μ x y z n (t + 1) (w1_s μ x a) (w3_b μ y a (w1_s μ x a) b) (w3_c μ z a b (w1_s μ x a) (w3_b μ y a (w1_s μ x a) b) c) < 0 then (-1, 8) else (y_3r μ x y z n (t + 1) (w1_s μ x a) (w3_b μ y a (w1_s μ x a) b) (w3_c μ z a b (w1_s μ x a) (w3_b μ y a (w1_s μ x a) b) c), 0)) 193 [(0, 2, 65), (5, 0, t), (6, 0, w32 (0 + 1))] [] m' := by
        intro m' hm' gz g1 g2 g3 ja jb jc n0 n1 n2
        rw [show w32 (0 + 1) = 1 by decide]
        refine uX6_three_193 (by omega) hm' ⟨fun c2 => absurd c2 (by decide), fun _ => ⟨by decide, fun c2 => ⟨?_, fun m4 e4 => ?_⟩, fun c2 => ?_⟩⟩
        · rw [n1]; split <;> decide
        · have fm4 : tFr wX6_three μ m4 := by rw [e4]; exact hm'.w (tWs_in _ rfl) (tS_w hm'.S sf_85 _ _)
          refine third m4 fm4 (by rw [e4]; simp [tm_vw]; exact gz) (by rw [e4]; simp [tm_vw]; exact g1) (by rw [e4]; simp [tm_vw]; exact g2) (by rw [e4]; simp [tm_vw]; exact g3) ⟨by rw [e4]; simp [tm_vw]; exact ja.1, by rw [e4]; simp [tm_vw]; exact ja.2.1, by rw [e4]; simp [tm_vw]; exact ja.2.2⟩ ?_ ⟨by rw [e4]; simp [tm_vw]; exact jc.1, by rw [e4]; simp [tm_vw]; exact jc.2.1, by rw [e4]; simp [tm_vw]; exact jc.2.2⟩ (by rw [e4]; simp [tm_vw]; exact n0) (by rw [e4]; simp [tm_vw]; exact n1) (by rw [e4]; simp [tm_vw]; exact n2)
          by_cases q1 : a.1 = b.1
          · rw [if_pos q1] at n1
            unfold w3_b
            rw [if_pos q1]
            refine ⟨?_, by rw [e4]; simp [tm_vw]; exact jb.2.1, by rw [e4]; simp [tm_vw]; exact jb.2.2⟩
            rw [e4, tm_vw, if_pos ⟨rfl, rfl⟩, n1]; exact ja.1
          · rw [if_neg q1] at n1; exact absurd n1 c2
        · have hb3 : w3_b μ y a (w1_s μ x a) b = w1_s μ y b := by
            rw [c2] at n1
            unfold w3_b
            by_cases q1 : a.1 = b.1
            · rw [if_pos q1] at n1; omega
            · rw [if_neg q1]
          refine own 1 y b m' (by decide) hy g2 hm' kb jb (fun m4 fm4 k1 k2 k3 k4 k5 => ?_)
          refine third m4 fm4 (by rw [k3]; exact gz) (by rw [k2]; exact g1) (by rw [k2]; exact g2) (by rw [k2]; exact g3) (k5 0 _ (by decide) ja) ?_ (k5 2 _ (by decide) jc) (by rw [k1]; exact n0) (by rw [k1]; exact n1) (by rw [k1]; exact n2)
          rw [hb3]; exact k4
      refine uX6_three_182 (by omega) hm ⟨fun c2 => by omega, fun _ => ?_⟩
      refine uX6_three_193 (by omega) hm ⟨fun c2 => absurd c2 (by decide), fun _ => ⟨by decide, fun c2 => absurd l0 c2, fun _ => ?_⟩⟩
      refine own 0 x a m (by decide) hx o1 hm ka ia (fun m4 fm4 k1 k2 k3 k4 k5 => ?_)
      exact second m4 fm4 (by rw [k3]; exact hz0) (by rw [k2]; exact o1) (by rw [k2]; exact o2) (by rw [k2]; exact o3) k4 (k5 1 _ (by decide) ib) (k5 2 _ (by decide) ic) (by rw [k1]; exact l0) (by rw [k1]; exact l1) (by rw [k1]; exact l2)
  -- the start
  intro m3 e3 m4 e4 m5 e5 m6 e6 m7 e7 m8 e8
  have g3 : tFr wX6_three μ m3 := by rw [e3]; exact f2.w (tWs_in _ rfl) (tS_w f2.S sf_100 _ _)
  have g4 : tFr wX6_three μ m4 := by rw [e4]; exact g3.w (tWs_in _ rfl) (tS_w g3.S sf_100 _ _)
  have g5 : tFr wX6_three μ m5 := by rw [e5]; exact g4.w (tWs_in _ rfl) (tS_w g4.S sf_100 _ _)
  have bg : ∀ (m : tm_M) (i p : Int), tFr wX6_three μ m → tFr wX6_three μ (tm_w (tm_w (tm_w m 85 i p) 86 i 0) 87 i 0) := fun m i p h => ((h.w (tWs_in _ rfl) (tS_w h.S sf_85 _ _)).w (tWs_in _ rfl) (tS_w (tS_w h.S sf_85 _ _) sf_86 _ _)).w (tWs_in _ rfl) (tS_w (tS_w (tS_w h.S sf_85 _ _) sf_86 _ _) sf_87 _ _)
  have g6 : tFr wX6_three μ m6 := by rw [e6]; exact bg _ _ _ g5
  have g7 : tFr wX6_three μ m7 := by rw [e7]; exact bg _ _ _ g6
  have g8 : tFr wX6_three μ m8 := by rw [e8]; exact bg _ _ _ g7
  have st : ∀ (m : tm_M), tFr wX6_three μ m → (∀ j, tm_v m 85 j = tm_v m8 85 j ∧ tm_v m 86 j = tm_v m8 86 j ∧ tm_v m 87 j = tm_v m8 87 j ∧ tm_v m 100 j = tm_v m8 100 j) → tm_v m 65 0 = tm_v m8 65 0 → tm_v m 99 0 = 0 → tm_v m 99 1 = 1 → tm_v m 99 2 = 2 → hI wX6_three μ mX6_three d (fun r m => (r, tm_v m 65 0) = if y_3 μ x y z b < 0 then (-1, 8) else (y_3 μ x y z b, 0)) 149 [(0, 2, 65), (5, 0, 3)] [] m := by
    intro m hm hv hz0 l0 l1 l2
    have a0 : w1_in m 0 (b / 100, 0, 0) := ⟨by rw [(hv 0).1, e8, e7, e6]; simp [tm_vw], by rw [(hv 0).2.1, e8, e7, e6]; simp [tm_vw], by rw [(hv 0).2.2.1, e8, e7, e6]; simp [tm_vw]⟩
    have a1 : w1_in m 1 (b / 10 % 10, 0, 0) := ⟨by rw [(hv 1).1, e8, e7]; simp [tm_vw], by rw [(hv 1).2.1, e8, e7]; simp [tm_vw], by rw [(hv 1).2.2.1, e8, e7]; simp [tm_vw]⟩
    have a2 : w1_in m 2 (b % 10, 0, 0) := ⟨by rw [(hv 2).1, e8]; simp [tm_vw], by rw [(hv 2).2.1, e8]; simp [tm_vw], by rw [(hv 2).2.2.1, e8]; simp [tm_vw]⟩
    have o0 : tm_v m 100 0 = x := by rw [(hv 0).2.2.2, e8, e7, e6, e5, e4, e3]; simp [tm_vw]
    have o1 : tm_v m 100 1 = y := by rw [(hv 1).2.2.2, e8, e7, e6, e5, e4]; simp [tm_vw]
    have o2 : tm_v m 100 2 = z := by rw [(hv 2).2.2.2, e8, e7, e6, e5]; simp [tm_vw]
    have zz : tm_v m 65 0 = 0 := by rw [hz0, e8, e7, e6, e5, e4, e3, e2]; simp [tm_vw]
    refine uX6_three_149 (by omega) hm ⟨fun _ => ?_, fun c2 => absurd c2 (by decide)⟩
    refine tC.I (pX6_holds hm.S) ?_
    rintro r m9 f9 ⟨hr, q0, q1, q2⟩
    have fm9 := hm.tr f9 (tWs_sub rfl)
    have hl := led m m9 (b / 100, 0, 0) (b / 10 % 10, 0, 0) (b % 10, 0, 0) a0.1 a1.1 a2.1 l0 (Or.inl l1) (Or.inl l2) q1 q2
    rw [a0.1, a1.1, a2.1] at hr
    have v85 : ∀ j, tm_v m9 85 j = tm_v m 85 j := fun j => f9.v (tWs_no _ rfl)
    have v86 : ∀ j, tm_v m9 86 j = tm_v m 86 j := fun j => f9.v (tWs_no _ rfl)
    have v87 : ∀ j, tm_v m9 87 j = tm_v m 87 j := fun j => f9.v (tWs_no _ rfl)
    have v100 : ∀ j, tm_v m9 100 j = tm_v m 100 j := fun j => f9.v (tWs_no _ rfl)
    have vz : tm_v m9 65 0 = 0 := by rw [f9.v (tWs_noF rfl)]; exact zz
    unfold y_3
    refine ⟨fun c => ?_, fun c => ?_⟩
    · rw [hr, b2i_0] at c
      refine ticks 200 0 _ _ _ m9 (by omega) (by omega) fm9 vz (by rw [v100]; exact o0) (by rw [v100]; exact o1) (by rw [v100]; exact o2) ⟨⟨hW, c1⟩, ⟨Int.le_refl _, Int.le_refl _⟩, Int.le_refl _, show (0 : Int) ≤ 2 by decide⟩ ⟨⟨hW, c2⟩, ⟨Int.le_refl _, Int.le_refl _⟩, Int.le_refl _, show (0 : Int) ≤ 2 by decide⟩ ⟨⟨hW, c3⟩, ⟨Int.le_refl _, Int.le_refl _⟩, Int.le_refl _, show (0 : Int) ≤ 2 by decide⟩ ?_ ?_ ?_ (by rw [q0]; exact l0) hl.1 hl.2 c
      · exact ⟨by rw [v85]; exact a0.1, by rw [v86]; exact a0.2.1, by rw [v87]; exact a0.2.2⟩
      · exact ⟨by rw [v85]; exact a1.1, by rw [v86]; exact a1.2.1, by rw [v87]; exact a1.2.2⟩
      · exact ⟨by rw [v85]; exact a2.1, by rw [v86]; exact a2.2.1, by rw [v87]; exact a2.2.2⟩
    · rw [hr, b2i_1] at c
      rw [y_3r, if_pos c, if_neg (by decide), vz]
  have l3 : ∀ (q i : Nat) (m : tm_M), i + q = 3 → tFr wX6_three μ m → (∀ j, tm_v m 85 j = tm_v m8 85 j ∧ tm_v m 86 j = tm_v m8 86 j ∧ tm_v m 87 j = tm_v m8 87 j ∧ tm_v m 100 j = tm_v m8 100 j) → tm_v m 65 0 = tm_v m8 65 0 → (∀ j, 0 ≤ j → j < (i : Int) → tm_v m 99 j = j) → hI wX6_three μ mX6_three d (fun r m => (r, tm_v m 65 0) = if y_3 μ x y z b < 0 then (-1, 8) else (y_3 μ x y z b, 0)) 149 [(0, 2, 65), (5, 0, (i : Int))] [] m := by
    intro q
    induction q with
    | zero =>
      intro i m hi hm hv hz0 hl
      have e3' : i = 3 := by omega
      subst e3'
      exact st m hm hv hz0 (hl 0 (by omega) (by omega)) (hl 1 (by omega) (by omega)) (hl 2 (by omega) (by omega))
    | succ q ih =>
      intro i m hi hm hv hz0 hl
      refine uX6_three_149 (by omega) hm ⟨fun c => by omega, fun _ => ⟨by omega, fun m' e' => ?_⟩⟩
      rw [w32_id (x := (i : Int) + 1) (by omega) (by omega)]
      refine ih (i + 1) m' (by omega) (by rw [e']; exact hm.w (tWs_in _ rfl) (tS_w hm.S sf_99 _ _)) (fun j => ?_) (by rw [e', tm_vw, if_neg (by omega)]; exact hz0) (fun j j0 j1 => ?_)
      · rw [e']
        exact ⟨by rw [tm_vw, if_neg (by omega)]; exact (hv j).1, by rw [tm_vw, if_neg (by omega)]; exact (hv j).2.1, by rw [tm_vw, if_neg (by omega)]; exact (hv j).2.2.1, by rw [tm_vw, if_neg (by omega)]; exact (hv j).2.2.2⟩
      · rw [e', tm_vw]
        by_cases e : j = (i : Int)
        · rw [if_pos ⟨rfl, e⟩, e]
        · rw [if_neg (fun q => e q.2)]; exact hl j j0 (by omega)
  exact l3 3 0 m8 (by omega) g8 (fun j => ⟨rfl, rfl, rfl, rfl⟩) rfl (fun j j0 j1 => by omega)
end C6U
