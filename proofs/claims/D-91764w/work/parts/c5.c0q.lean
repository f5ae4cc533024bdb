/-! CONTRACTS of the component: all rows; agreed, alike -/
section C0Q
variable {d : Nat} {μ μ0 ν : tm_M} {W : Int → Int → Prop} {f g f' g' : Int → Int}
abbrev WG : Int → Int → Prop := tWs [18, 19, 20, 21, 22, 23, 24, 25, 26, 28, 29, 30, 31, 32, 33, 34, 35, 36, 37, 38, 39, 40] [(1, 30), (1, 31)]
/-- how many numbers a row of t steps has; how many steps there are -/
def gm (o : Int) (t : Nat) : Int := if o = 0 then 2 * (t : Int) else t
def gb (o : Int) : Nat := if o = 0 then 25 else 5
theorem dg_up {m v P k : Int} (j : Nat) (h : v / 5 ^ j = P) (hk : 0 ≤ m - 1 - k) : dg (m + j) v k = dg m P k := by
  unfold dg
  rw [show (m + j - 1 - k).toNat = j + (m - 1 - k).toNat by omega, Int.pow_add, ← Int.ediv_ediv_of_nonneg (Int.le_of_lt (Int.pow_pos (by decide))), h]
theorem row_up {o P one two c : Int} {t : Nat} (h1 : 0 ≤ one ∧ one ≤ 4) (h2 : 0 ≤ two ∧ two ≤ 4) (hc0 : o = 0 → c = 5 * one + two) (hc1 : o ≠ 0 → c = one ∧ two = one) :
    (∀ i : Int, 0 ≤ i → i < t → row1 (dg (gm o (t + 1)) (gb o * P + c)) o i = row1 (dg (gm o t) P) o i ∧ row2 (dg (gm o (t + 1)) (gb o * P + c)) o i = row2 (dg (gm o t) P) o i) ∧ row1 (dg (gm o (t + 1)) (gb o * P + c)) o t = one ∧ row2 (dg (gm o (t + 1)) (gb o * P + c)) o t = two := by
  unfold row1 row2 gm gb
  by_cases e : o = 0
  · have hc := hc0 e
    simp only [if_pos e]
    have hd : ((25 : Nat) * P + c : Int) / 5 ^ 2 = P := by
      have : (5 : Int) ^ 2 = 25 := rfl
      rw [this]; omega
    have hm : (2 * ((t + 1 : Nat) : Int)) = 2 * (t : Int) + (2 : Nat) := by omega
    refine ⟨fun i i0 i1 => ⟨?_, ?_⟩, ?_, ?_⟩
    · rw [hm]; exact dg_up 2 hd (by omega)
    · rw [hm]; exact dg_up 2 hd (by omega)
    · unfold dg
      rw [show (2 * ((t + 1 : Nat) : Int) - 1 - 2 * (t : Int)).toNat = 1 by omega]
      have : (5 : Int) ^ 1 = 5 := rfl
      rw [this]; omega
    · unfold dg
      rw [show (2 * ((t + 1 : Nat) : Int) - 1 - (2 * (t : Int) + 1)).toNat = 0 by omega]
      have : (5 : Int) ^ 0 = 1 := rfl
      rw [this]; omega
  · have hc := hc1 e
    simp only [if_neg e]
    have hd : ((5 : Nat) * P + c : Int) / 5 ^ 1 = P := by
      have : (5 : Int) ^ 1 = 5 := rfl
      rw [this]; omega
    have hm : ((t + 1 : Nat) : Int) = (t : Int) + (1 : Nat) := by omega
    have h0 : dg ((t + 1 : Nat) : Int) ((5 : Nat) * P + c) t = one := by
      unfold dg
      rw [show (((t + 1 : Nat) : Int) - 1 - (t : Int)).toNat = 0 by omega]
      have : (5 : Int) ^ 0 = 1 := rfl
      rw [this]; omega
    refine ⟨fun i i0 i1 => ?_, h0, by rw [h0]; exact hc.2.symm⟩
    rw [hm, dg_up 1 hd (by omega)]
    exact ⟨rfl, rfl⟩
/-- the best one so far is kept -/
def bst (n : Nat) (o : Int) (s : Int × Int × Int) (m : tm_M) : Prop := (s.1 = -1 ∨ 0 ≤ s.1) ∧ tm_v m 1 30 = s.1 ∧ (0 ≤ s.1 → tm_v m 1 31 = s.2.1 ∧ ∀ i : Int, 0 ≤ i → i < n → tm_v m 39 i = row1 (dg (gm o n) s.2.2) o i ∧ tm_v m 40 i = row2 (dg (gm o n) s.2.2) o i)
theorem bst_cg {n : Nat} {o : Int} {s : Int × Int × Int} {m m' : tm_M} (h : bst n o s m) (e1 : ∀ j, j = 30 ∨ j = 31 → tm_v m' 1 j = tm_v m 1 j) (e2 : ∀ c j, c = 39 ∨ c = 40 → tm_v m' c j = tm_v m c j) : bst n o s m' := by
  obtain ⟨h1, h2, h3⟩ := h
  refine ⟨h1, by rw [e1 _ (Or.inl rfl)]; exact h2, fun q => ⟨by rw [e1 _ (Or.inr rfl)]; exact (h3 q).1, fun i i0 i1 => ?_⟩⟩
  rw [e2 _ _ (Or.inl rfl), e2 _ _ (Or.inr rfl)]
  exact (h3 q).2 i i0 i1
/-- what goes through all rows with a beginning leaves -/
def goJ (n : Nat) (o : Int) (t : Nat) (μ : tm_M) (s : Int × Int × Int) (m : tm_M) : Prop := (∀ c j : Int, (18 ≤ c ∧ c ≤ 18 + t) ∨ (28 ≤ c ∧ c ≤ 28 + t) → tm_v m c j = tm_v μ c j) ∧ (∀ i : Int, i < t → tm_v m 37 i = tm_v μ 37 i ∧ tm_v m 38 i = tm_v μ 38 i) ∧ bst n o s m
theorem pX0_goRows {n : Nat} {o : Int} (n5 : n ≤ 5) (ho : o = 0 ∨ o = 1) : ∀ (r t : Nat) (P : Int) (s : Int × Int × Int) (μ : tm_M) (d : Nat), t + r = n → 3 + r ≤ d → tS μ → JU μ ν → tm_v μ 1 27 = n → hld ν (tm_v μ 37) (tm_v μ 38) t μ → (∀ i : Int, 0 ≤ i → i < t → tm_v μ 37 i = row1 (dg (gm o t) P) o i ∧ tm_v μ 38 i = row2 (dg (gm o t) P) o i) → bst n o s μ →
    cV WG mX0_goRows d [(2, 1), (0, (t : Int)), (1, rl ν (tm_v μ 37) (tm_v μ 38) t), (0, o)] μ (goJ n o t μ (rw_f ν n (gm o n) o (gb o ^ r) (P * (gb o ^ r : Nat)) s)) := by
  intro r
  induction r with
  | zero =>
    intro t P s μ d htr hd hs hJ h27 hh hdg hb
    have etn : t = n := by omega
    subst etn
    refine t_of (uX0_goRows_0 (by omega) (tFr.rf hs) ⟨fun c => absurd h27.symm c, fun _ => ?_⟩)
    refine tC.V (pX0_endRows (f := tm_v μ 37) (g := tm_v μ 38) (n := t) (by omega) hs hJ n5 h27 hh) (fun m fm hm => ⟨fun c j hc => ?_, fun i hi => ⟨fm.v (tWs_no _ rfl), fm.v (tWs_no _ rfl)⟩, ?_⟩)
    · rcases hc with q | q
      · exact fm.v (tWs_nr (lo := 18) (n := 9) rfl (by omega))
      · exact fm.v (tWs_nr (lo := 28) (n := 9) rfl (by omega))
    · have hW := hJ.1
      have eM : rw_m ν t (gm o t) o P = rm ν (tm_v μ 37) (tm_v μ 38) t := by
        rw [rw_m_eq hW, Int.toNat_natCast]
        exact rm_cg t (fun i i0 i1 => ⟨(hdg i i0 i1).1.symm, (hdg i i0 i1).2.symm⟩)
      have eL : rw_l ν t (gm o t) o P = rl ν (tm_v μ 37) (tm_v μ 38) t + rm ν (tm_v μ 37) (tm_v μ 38) t * ((t : Int) + 1) := by
        rw [rw_l_eq hW, Int.toNat_natCast, rm_cg t (fun i i0 i1 => ⟨(hdg i i0 i1).1.symm, (hdg i i0 i1).2.symm⟩), rl_cg t (fun i i0 i1 => ⟨(hdg i i0 i1).1.symm, (hdg i i0 i1).2.symm⟩)]
      have eP : P * ((gb o ^ 0 : Nat) : Int) = P := by rw [Nat.pow_zero]; omega
      rw [eP, Nat.pow_zero, rw_f, rw_f]
      unfold rw_s
      rw [eM, eL]
      unfold o_end at hm
      obtain ⟨b1, b2, b3⟩ := hb
      have hq := rm_in (f := tm_v μ 37) (g := tm_v μ 38) hW t
      by_cases c : 0 ≤ s.1 ∧ (s.1 < rm ν (tm_v μ 37) (tm_v μ 38) t ∨ (rm ν (tm_v μ 37) (tm_v μ 38) t = s.1 ∧ s.2.1 ≤ rl ν (tm_v μ 37) (tm_v μ 38) t + rm ν (tm_v μ 37) (tm_v μ 38) t * ((t : Int) + 1)))
      · rw [if_pos c]
        have h31 := (b3 c.1).1
        rw [b2, h31, if_pos ⟨by omega, c.2⟩] at hm
        rw [hm]; exact ⟨b1, b2, b3⟩
      · rw [if_neg c]
        rw [if_neg] at hm
        · refine ⟨Or.inr hq.1, hm.1, fun _ => ⟨hm.2.1, fun i i0 i1 => ?_⟩⟩
          have := hm.2.2 i i0 (by omega)
          rw [this.1, this.2]
          exact hdg i i0 i1
        · rw [b2]
          rintro ⟨q1, q2⟩
          have q0 : 0 ≤ s.1 := by omega
          rw [(b3 q0).1] at q2
          exact c ⟨q0, q2⟩
  | succ r ih =>
    intro t P s μ d htr hd hs hJ h27 hh hdg hb
    have hT : y_TC (c_FA μ) WG := tWs_TC ⟨rfl, rfl⟩
    have hW := hJ.1
    have B1 : 1 ≤ gb o ^ r := Nat.pow_pos (by unfold gb; split <;> decide)
    have et1 : w32 ((t : Int) + 1) = ((t + 1 : Nat) : Int) := by rw [w32_id (by omega) (by omega)]; omega
    have hrl := rl_in (f := tm_v μ 37) (g := tm_v μ 38) hW t (by omega)
    -- a step of both, and all rows behind it
    have blk : ∀ (K' : tm_M → Prop) (one two : Int) (c : Nat) (m : tm_M), 0 ≤ one ∧ one ≤ 4 → 0 ≤ two ∧ two ≤ 4 → (o = 0 → (c : Int) = 5 * one + two) → (o ≠ 0 → (c : Int) = one ∧ two = one) → tFr WG μ m → goJ n o t μ (rw_f ν n (gm o n) o (c * gb o ^ r) (P * (gb o ^ (r + 1) : Nat)) s) m →
        (∀ m', tFr WG μ m' → goJ n o t μ (rw_f ν n (gm o n) o ((c + 1) * gb o ^ r) (P * (gb o ^ (r + 1) : Nat)) s) m' → K' m') →
        ∀ m6, m6 = tm_w m 37 t one → ∀ m7, m7 = tm_w m6 38 t two → cL WO mX0_doesStep (d - 1) [(2, 1), (0, (t : Int)), (0, one), (0, two)] m7 (fun r9 m8 => cV WG mX0_goRows (d - 1) [(2, 1), (0, w32 ((t : Int) + 1)), (1, w64 (rl ν (tm_v μ 37) (tm_v μ 38) t + r9)), (0, o)] m8 K') := by
      intro K' one two c m h1 h2 hc0 hc1 hm hI kk m6 e6 m7 e7
      obtain ⟨i1, i2, i3⟩ := hI
      have F6 : tFr WG μ m6 := by rw [e6]; exact hm.w (tWs_in _ rfl) (tS_w hm.S sf_37 _ _)
      have F7 : tFr WG μ m7 := by rw [e7]; exact F6.w (tWs_in _ rfl) (tS_w F6.S sf_38 _ _)
      have v37 : ∀ i : Int, tm_v m7 37 i = if i = t then one else tm_v m 37 i := fun i => by rw [e7, e6]; simp only [tm_vw]; simp
      have v38 : ∀ i : Int, tm_v m7 38 i = if i = t then two else tm_v m 38 i := fun i => by rw [e7, e6]; simp only [tm_vw]; simp
      have vo : ∀ a j : Int, a ≠ 37 → a ≠ 38 → tm_v m7 a j = tm_v m a j := fun a j q1 q2 => by rw [e7, tm_vw, if_neg (fun z => q2 z.1), e6, tm_vw, if_neg (fun z => q1 z.1)]
      have old : ∀ i : Int, 0 ≤ i → i < t → tm_v μ 37 i = tm_v m7 37 i ∧ tm_v μ 38 i = tm_v m7 38 i := fun i i0 i1 => by
        rw [v37, v38, if_neg (by omega), if_neg (by omega), (i2 i i1).1, (i2 i i1).2]; exact ⟨rfl, rfl⟩
      have hh7 : hld ν (tm_v m7 37) (tm_v m7 38) t m7 := hld_cg hh old (fun c j hc => by rw [vo _ _ (by omega) (by omega)]; exact i1 c j (by omega))
      refine tC.L (pX0_doesStep (f := tm_v m7 37) (g := tm_v m7 38) (by omega) F7.S (JU_F hJ F7 hT) (by omega) (by rw [v37, if_pos rfl]) (by rw [v38, if_pos rfl]) hh7) (fun r9 m8 f8 h8 => ?_)
      obtain ⟨q1, q2, q3⟩ := h8
      have F8 : tFr WG μ m8 := F7.tr f8 (tWs_sub rfl)
      have g37 : tm_v m8 37 = tm_v m7 37 := funext fun j => q3 37 j (by omega) (by omega)
      have g38 : tm_v m8 38 = tm_v m7 38 := funext fun j => q3 38 j (by omega) (by omega)
      have hlate : w64 (rl ν (tm_v μ 37) (tm_v μ 38) t + r9) = rl ν (tm_v m8 37) (tm_v m8 38) (t + 1) := by
        have b2 := rl_in (f := tm_v m7 37) (g := tm_v m7 38) hW (t + 1) (by omega)
        rw [g37, g38, q1, rl_cg t old, w64_id (by omega) (by omega)]
        omega
      have hru := row_up (o := o) (P := P) (t := t) (c := (c : Int)) h1 h2 hc0 hc1
      rw [et1, hlate]
      refine tC.V (ih (t + 1) ((gb o : Int) * P + c) (rw_f ν n (gm o n) o (c * gb o ^ r) (P * (gb o ^ (r + 1) : Nat)) s) m8 (d - 1) (by omega) (by omega) F8.S (JU_F hJ F8 hT) (by rw [F8.v (tWs_noF rfl)]; exact h27) (by rw [g37, g38]; exact q2) (fun i i0 i1 => ?_) ?_) (fun m10 f10 h10 => kk m10 (F8.tr f10 (tWs_sub rfl)) ?_)
      · rw [g37, g38, v37, v38]
        by_cases e : i = t
        · rw [e, if_pos rfl, if_pos rfl, hru.2.1, hru.2.2]; exact ⟨rfl, rfl⟩
        · rw [if_neg e, if_neg e, (i2 i (by omega)).1, (i2 i (by omega)).2, (hru.1 i i0 (by omega)).1, (hru.1 i i0 (by omega)).2]
          exact hdg i i0 (by omega)
      · exact bst_cg i3 (fun j hj => by rw [q3 _ _ (by omega) (by omega), vo _ _ (by omega) (by omega)]) (fun c j hj => by rw [q3 _ _ (by omega) (by omega), vo _ _ (by omega) (by omega)])
      · obtain ⟨z1, z2, z3⟩ := h10
        refine ⟨fun c j hc => ?_, fun i hi => ?_, ?_⟩
        · rw [z1 c j (by omega), q3 c j (by omega) (by omega), vo _ _ (by omega) (by omega)]
          exact i1 c j hc
        · rw [(z2 i (by omega)).1, (z2 i (by omega)).2, g37, g38, v37, v38, if_neg (by omega), if_neg (by omega)]
          exact i2 i hi
        · have ev : P * ((gb o ^ (r + 1) : Nat) : Int) + ((c * gb o ^ r : Nat) : Int) = ((gb o : Int) * P + c) * ((gb o ^ r : Nat) : Int) := by
            rw [Nat.pow_succ, Int.natCast_mul, Int.natCast_mul, Int.add_mul, Int.mul_comm (gb o : Int) P, Int.mul_assoc P, Int.mul_comm (gb o : Int)]
          have ea : (c + 1) * gb o ^ r = c * gb o ^ r + gb o ^ r := by rw [Nat.add_mul, Nat.one_mul]
          rw [ea, rw_f_add, ev]
          exact z3
    -- all first steps
    have fin : ∀ m, tFr WG μ m → goJ n o t μ (rw_f ν n (gm o n) o (gb o * gb o ^ r) (P * (gb o ^ (r + 1) : Nat)) s) m → goJ n o t μ (rw_f ν n (gm o n) o (gb o ^ (r + 1)) (P * (gb o ^ (r + 1) : Nat)) s) m := by
      intro m _ h
      rw [Nat.pow_succ, Nat.mul_comm (gb o ^ r)]
      rw [Nat.pow_succ, Nat.mul_comm (gb o ^ r)] at h
      exact h
    have outer : ∀ (q one : Nat) (m : tm_M), one + q = 5 → tFr WG μ m → goJ n o t μ (rw_f ν n (gm o n) o ((if o = 0 then 5 * one else one) * gb o ^ r) (P * (gb o ^ (r + 1) : Nat)) s) m → hV WG μ mX0_goRows d (goJ n o t μ (rw_f ν n (gm o n) o (gb o ^ (r + 1)) (P * (gb o ^ (r + 1) : Nat)) s)) 17 [(0, 2, 1), (1, 0, (t : Int)), (2, 1, rl ν (tm_v μ 37) (tm_v μ 38) t), (4, 0, o), (5, 0, (one : Int))] [] m := by
      intro q
      induction q with
      | zero =>
        intro one m h5 hm hI
        refine uX0_goRows_17 hm ⟨fun _ => fin m hm ?_, fun c => by omega⟩
        have e5 : one = 5 := by omega
        subst e5
        have : (if o = 0 then 5 * 5 else 5) = gb o := by unfold gb; split <;> rfl
        rw [this] at hI
        exact hI
      | succ q ihq =>
        intro one m h5 hm hI
        have e1 : w32 ((one : Int) + 1) = ((one + 1 : Nat) : Int) := by rw [w32_id (by omega) (by omega)]; omega
        rcases ho with rfl | rfl
        · have inner : ∀ (z two : Nat) (m : tm_M), two + z = 5 → tFr WG μ m → goJ n 0 t μ (rw_f ν n (gm 0 n) 0 ((5 * one + two) * gb 0 ^ r) (P * (gb 0 ^ (r + 1) : Nat)) s) m → hV WG μ mX0_goRows d (goJ n 0 t μ (rw_f ν n (gm 0 n) 0 (gb 0 ^ (r + 1)) (P * (gb 0 ^ (r + 1) : Nat)) s)) 36 [(0, 2, 1), (1, 0, (t : Int)), (2, 1, rl ν (tm_v μ 37) (tm_v μ 38) t), (4, 0, 0), (5, 0, (one : Int)), (6, 0, (two : Int))] [] m := by
            intro z
            induction z with
            | zero =>
              intro two m h2 hm hI
              refine uX0_goRows_36 (by omega) hm ⟨fun _ => ⟨fun _ => ?_, fun c => by omega⟩, fun c => absurd rfl c⟩
              rw [e1]
              refine ihq (one + 1) m (by omega) hm ?_
              rw [if_pos rfl, show 5 * (one + 1) = 5 * one + two by omega]
              exact hI
            | succ z ihz =>
              intro two m h2 hm hI
              have e2 : w32 ((two : Int) + 1) = ((two + 1 : Nat) : Int) := by rw [w32_id (by omega) (by omega)]; omega
              refine uX0_goRows_36 (by omega) hm ⟨fun _ => ⟨fun c => by omega, fun _ => ⟨by omega, ?_⟩⟩, fun c => absurd rfl c⟩
              rw [e2]
              exact blk _ one two (5 * one + two) m (by omega) (by omega) (fun _ => by omega) (fun c => absurd rfl c) hm hI (fun m' g1 g2 => ihz (two + 1) m' (by omega) g1 g2)
          refine uX0_goRows_17 hm ⟨fun c => by omega, fun _ => ⟨fun _ => inner 5 0 m rfl hm ?_, fun c => absurd rfl c⟩⟩
          rw [if_pos rfl] at hI
          exact hI
        · refine uX0_goRows_17 hm ⟨fun c => by omega, fun _ => ⟨fun c => absurd c (by decide), fun _ => ?_⟩⟩
          refine uX0_goRows_36 (by omega) hm ⟨fun c => absurd c (by decide), fun _ => ⟨fun c => by omega, fun _ => ⟨by omega, ?_⟩⟩⟩
          rw [e1]
          refine blk _ one one one m (by omega) (by omega) (fun c => absurd c (by decide)) (fun _ => ⟨rfl, rfl⟩) hm (by rw [if_neg (by decide)] at hI; exact hI) (fun m' g1 g2 => ?_)
          refine uX0_goRows_36 (by omega) g1 ⟨fun c => absurd c (by decide), fun _ => ⟨fun _ => ?_, fun c => by omega⟩⟩
          rw [e1]
          exact ihq (one + 1) m' (by omega) g1 (by rw [if_neg (by decide)]; exact g2)
    refine t_of (uX0_goRows_0 (by omega) (tFr.rf hs) ⟨fun _ => ?_, fun c => by rw [h27] at c; omega⟩)
    refine outer 5 0 μ rfl (tFr.rf hs) ⟨fun _ _ _ => rfl, fun _ _ => ⟨rfl, rfl⟩, ?_⟩
    have e0 : (if o = 0 then 5 * 0 else 0) = 0 := by split <;> rfl
    rw [e0, Nat.zero_mul, rw_f]
    exact hb
/-- agreed rows: what is told, what is kept -/
def c_agreed (μ ν : tm_M) (n : Int) (r : Int) (m : tm_M) : Prop := c_o (r_agreed ν n) r m ∧ if (1 ≤ n ∧ n ≤ 3) ∧ y_all ν ≠ 0 then tm_v m 1 28 = n ∧ ∀ w k, 0 ≤ w → w ≤ 1 → 0 ≤ k → k < n → tm_v m (42 + w) k = dg (2 * n) (rw_best ν n (2 * n) 0).2.2 (2 * k + w) else ∃ x, m = tm_w μ 1 10 x
abbrev WA : Int → Int → Prop := tWs [18, 19, 20, 21, 22, 23, 24, 25, 26, 28, 29, 30, 31, 32, 33, 34, 35, 36, 37, 38, 39, 40, 42, 43] [(1, 10), (1, 14), (1, 15), (1, 27), (1, 28), (1, 30), (1, 31)]
theorem pX0_agreed {n : Int} (hd : 9 ≤ d) (hs : tS μ) (hJ : JU μ ν) (hF : JF μ ν) : cI WA mX0_agreed d [(2, 1), (0, n)] μ (c_agreed μ ν n) := by
  have hW := hJ.1
  have hal := y_all_in hW
  have no : ∀ x m, m = tm_w μ 1 10 x → r_agreed ν n = (-1, x, tm_v ν 65 2, tm_v ν 65 3) → ¬ ((1 ≤ n ∧ n ≤ 3) ∧ y_all ν ≠ 0) → c_agreed μ ν n (-1) m := by
    intro x m e h1 h2
    refine ⟨?_, by rw [if_neg h2]; exact ⟨x, e⟩⟩
    rw [h1, e]
    exact ⟨rfl, by simp [tm_vw], by simp [tm_vw]; exact hF.1, by simp [tm_vw]; exact hF.2⟩
  refine t_of (uX0_agreed_0 (ν := ν) (by omega) (tFr.rf hs) ⟨fun c m e => no 5 m e (by unfold r_agreed; rw [if_pos (by omega)]) (by omega), fun c1 => ⟨fun c3 => ⟨hJ, fun ca => ?_, fun ca m e => no 9 m e (by unfold r_agreed; rw [if_neg (by omega), if_pos ca]) (by omega)⟩, fun c m e => no 5 m e (by unfold r_agreed; rw [if_pos (by omega)]) (by omega)⟩⟩)
  obtain ⟨N, hN⟩ : ∃ N : Nat, n = N := ⟨n.toNat, by omega⟩
  subst hN
  refine tC.V (pX0_beginRows (by omega) hs hJ) (fun m1 f1 h1 => ?_)
  have J1 : JU m1 ν := JU_F hJ f1 (tWs_TC ⟨rfl, rfl⟩)
  have r0 : (0 : Int) = rl ν (tm_v m1 37) (tm_v m1 38) 0 := by
    unfold rl
    rw [sm_z]
    intro i hi
    show wt ν i * 0 = 0
    simp
  have hgo := pX0_goRows (ν := ν) (n := N) (o := 0) (by omega) (Or.inl rfl) N 0 0 (-1, 0, 0) m1 (d - 1) (by omega) (by omega) f1.S J1 h1.1 (h1.2.2 _ _) (fun i i0 i1 => by omega) ⟨Or.inl rfl, h1.2.1, fun q => absurd q (by decide)⟩
  rw [← r0] at hgo
  refine tC.V hgo (fun m2 f2 h2 m3 e3 m4 e4 m5 e5 => ?_)
  have ebest : rw_f ν N (gm 0 N) 0 (gb 0 ^ N) (0 * ((gb 0 ^ N : Nat) : Int)) (-1, 0, 0) = rw_best ν N (2 * N) 0 := by
    unfold rw_best gm gb
    have : (25 : Nat) ^ N = 5 ^ (2 * (N : Int)).toNat := by
      rw [show (2 * (N : Int)).toNat = 2 * N by omega, Nat.pow_mul]
    simp only [if_true]
    rw [this, Int.zero_mul]
  rw [ebest] at h2
  have bb := rw_best_bd (n := N) (m := 2 * N) (o := 0) hW (by omega)
  obtain ⟨z1, z2, z3⟩ := h2.2.2
  have z4 := z3 bb.1.1
  have F1 : tFr WA μ m1 := f1.to (tWs_sub rfl)
  have F2 : tFr WA μ m2 := F1.tr f2 (tWs_sub rfl)
  have F3 : tFr WA μ m3 := by rw [e3]; exact F2.c (fun q => tWs_in _ rfl) (tS_c F2.S sf_42 _ _ _ _)
  have F4 : tFr WA μ m4 := by rw [e4]; exact F3.c (fun q => tWs_in _ rfl) (tS_c F3.S sf_43 _ _ _ _)
  have F5 : tFr WA μ m5 := by rw [e5]; exact F4.w (tWs_inF rfl) (tS_wj F4.S _ (by decide))
  have v31 : tm_v m5 1 31 = (rw_best ν N (2 * N) 0).2.1 := by rw [← z4.1, e5, e4, e3]; simp [tm_vw, tm_vc]
  have v30 : tm_v m5 1 30 = (rw_best ν N (2 * N) 0).1 := by rw [← z2, e5, e4, e3]; simp [tm_vw, tm_vc]
  rw [v31]
  refine tC.I (pX0_tell (by omega) F5.S (by omega) (by omega)) (fun r6 m6 f6 h6 m7 e7 => ?_)
  obtain ⟨-, e6⟩ := h6
  have v30' : tm_v m6 1 30 = (rw_best ν N (2 * N) 0).1 := by rw [f6.v (tWs_noF rfl)]; exact v30
  have hv := c_fr_v (μ := m5) (rw_best ν N (2 * N) 0).2.1 (y_all ν)
  have er : r_agreed ν N = ((rw_best ν N (2 * N) 0).1, 0, frt (rw_best ν N (2 * N) 0).2.1 (y_all ν), frb (rw_best ν N (2 * N) 0).2.1 (y_all ν)) := by unfold r_agreed; rw [if_neg (by omega), if_neg ca]
  rw [v30', w32_id (by omega) (by omega)]
  refine ⟨?_, ?_⟩
  · rw [er, e7]
    refine ⟨rfl, by simp [tm_vw], ?_, ?_⟩
    · rw [tm_vw, if_neg (by omega), e6]; exact hv.2.1
    · rw [tm_vw, if_neg (by omega), e6]; exact hv.2.2
  · rw [if_pos ⟨by omega, ca⟩]
    have v28 : tm_v m7 1 28 = N := by rw [e7, tm_vw, if_neg (by omega), f6.v (tWs_noF rfl), e5]; simp [tm_vw]
    refine ⟨v28, fun w k w0 w1 k0 k1 => ?_⟩
    have k2 := z4.2 k k0 k1
    have hg : gm 0 N = 2 * (N : Int) := rfl
    unfold row1 row2 at k2
    rw [if_pos rfl, if_pos rfl, hg] at k2
    rcases (show w = 0 ∨ w = 1 by omega) with rfl | rfl
    · rw [show (42 : Int) + 0 = 42 by rfl, e7, tm_vw, if_neg (by omega), f6.v (tWs_no _ rfl), e5, tm_vw, if_neg (by omega), e4, tm_vc, if_neg (by omega), e3, tm_vc, if_pos ⟨rfl, by omega⟩, show (0 : Int) + (k - 0) = k by omega, k2.1, Int.add_zero]
    · rw [show (42 : Int) + 1 = 43 by rfl, e7, tm_vw, if_neg (by omega), f6.v (tWs_no _ rfl), e5, tm_vw, if_neg (by omega), e4, tm_vc, if_pos ⟨rfl, by omega⟩, e3, tm_vc, if_neg (by omega), show (0 : Int) + (k - 0) = k by omega, k2.2]
def c_alike (μ ν : tm_M) (n : Int) (r : Int) (m : tm_M) : Prop := c_o (r_alike ν n) r m ∧ if (1 ≤ n ∧ n ≤ 5) ∧ y_all ν ≠ 0 then tm_v m 1 29 = n ∧ ∀ k, 0 ≤ k → k < n → tm_v m 44 k = dg n (rw_best ν n n 1).2.2 k else ∃ x, m = tm_w μ 1 10 x
abbrev WL : Int → Int → Prop := tWs [18, 19, 20, 21, 22, 23, 24, 25, 26, 28, 29, 30, 31, 32, 33, 34, 35, 36, 37, 38, 39, 40, 44] [(1, 10), (1, 14), (1, 15), (1, 27), (1, 29), (1, 30), (1, 31)]
theorem pX0_alike {n : Int} (hd : 10 ≤ d) (hs : tS μ) (hJ : JU μ ν) (hF : JF μ ν) : cI WL mX0_alike d [(2, 1), (0, n)] μ (c_alike μ ν n) := by
  have hW := hJ.1
  have hal := y_all_in hW
  have no : ∀ x m, m = tm_w μ 1 10 x → r_alike ν n = (-1, x, tm_v ν 65 2, tm_v ν 65 3) → ¬ ((1 ≤ n ∧ n ≤ 5) ∧ y_all ν ≠ 0) → c_alike μ ν n (-1) m := by
    intro x m e h1 h2
    refine ⟨?_, by rw [if_neg h2]; exact ⟨x, e⟩⟩
    rw [h1, e]
    exact ⟨rfl, by simp [tm_vw], by simp [tm_vw]; exact hF.1, by simp [tm_vw]; exact hF.2⟩
  refine t_of (uX0_alike_0 (ν := ν) (by omega) (tFr.rf hs) ⟨fun c m e => no 5 m e (by unfold r_alike; rw [if_pos (by omega)]) (by omega), fun c1 => ⟨fun c3 => ⟨hJ, fun ca => ?_, fun ca m e => no 9 m e (by unfold r_alike; rw [if_neg (by omega), if_pos ca]) (by omega)⟩, fun c m e => no 5 m e (by unfold r_alike; rw [if_pos (by omega)]) (by omega)⟩⟩)
  obtain ⟨N, hN⟩ : ∃ N : Nat, n = N := ⟨n.toNat, by omega⟩
  subst hN
  refine tC.V (pX0_beginRows (by omega) hs hJ) (fun m1 f1 h1 => ?_)
  have J1 : JU m1 ν := JU_F hJ f1 (tWs_TC ⟨rfl, rfl⟩)
  have r0 : (0 : Int) = rl ν (tm_v m1 37) (tm_v m1 38) 0 := by
    unfold rl
    rw [sm_z]
    intro i hi
    show wt ν i * 0 = 0
    simp
  have hgo := pX0_goRows (ν := ν) (n := N) (o := 1) (by omega) (Or.inr rfl) N 0 0 (-1, 0, 0) m1 (d - 1) (by omega) (by omega) f1.S J1 h1.1 (h1.2.2 _ _) (fun i i0 i1 => by omega) ⟨Or.inl rfl, h1.2.1, fun q => absurd q (by decide)⟩
  rw [← r0] at hgo
  refine tC.V hgo (fun m2 f2 h2 m3 e3 m5 e5 => ?_)
  have ebest : rw_f ν N (gm 1 N) 1 (gb 1 ^ N) (0 * ((gb 1 ^ N : Nat) : Int)) (-1, 0, 0) = rw_best ν N N 1 := by
    unfold rw_best gm gb
    simp only [if_neg (show ¬ (1 : Int) = 0 by decide)]
    rw [Int.zero_mul, Int.toNat_natCast]
  rw [ebest] at h2
  have bb := rw_best_bd (n := N) (m := N) (o := 1) hW (by omega)
  obtain ⟨z1, z2, z3⟩ := h2.2.2
  have z4 := z3 bb.1.1
  have F1 : tFr WL μ m1 := f1.to (tWs_sub rfl)
  have F2 : tFr WL μ m2 := F1.tr f2 (tWs_sub rfl)
  have F3 : tFr WL μ m3 := by rw [e3]; exact F2.c (fun q => tWs_in _ rfl) (tS_c F2.S sf_44 _ _ _ _)
  have F5 : tFr WL μ m5 := by rw [e5]; exact F3.w (tWs_inF rfl) (tS_wj F3.S _ (by decide))
  have v31 : tm_v m5 1 31 = (rw_best ν N N 1).2.1 := by rw [← z4.1, e5, e3]; simp [tm_vw, tm_vc]
  have v30 : tm_v m5 1 30 = (rw_best ν N N 1).1 := by rw [← z2, e5, e3]; simp [tm_vw, tm_vc]
  rw [v31]
  refine tC.I (pX0_tell (by omega) F5.S (by omega) (by omega)) (fun r6 m6 f6 h6 m7 e7 => ?_)
  obtain ⟨-, e6⟩ := h6
  have v30' : tm_v m6 1 30 = (rw_best ν N N 1).1 := by rw [f6.v (tWs_noF rfl)]; exact v30
  have hv := c_fr_v (μ := m5) (rw_best ν N N 1).2.1 (y_all ν)
  have er : r_alike ν N = ((rw_best ν N N 1).1, 0, frt (rw_best ν N N 1).2.1 (y_all ν), frb (rw_best ν N N 1).2.1 (y_all ν)) := by unfold r_alike; rw [if_neg (by omega), if_neg ca]
  rw [v30', w32_id (by omega) (by omega)]
  refine ⟨?_, ?_⟩
  · rw [er, e7]
    refine ⟨rfl, by simp [tm_vw], ?_, ?_⟩
    · rw [tm_vw, if_neg (by omega), e6]; exact hv.2.1
    · rw [tm_vw, if_neg (by omega), e6]; exact hv.2.2
  · rw [if_pos ⟨by omega, ca⟩]
    have v28 : tm_v m7 1 29 = N := by rw [e7, tm_vw, if_neg (by omega), f6.v (tWs_noF rfl), e5]; simp [tm_vw]
    refine ⟨v28, fun k k0 k1 => ?_⟩
    have k2 := z4.2 k k0 k1
    have hg : gm 1 N = (N : Int) := rfl
    unfold row1 row2 at k2
    rw [if_neg (by decide), if_neg (by decide), hg] at k2
    rw [e7, tm_vw, if_neg (by omega), f6.v (tWs_no _ rfl), e5, tm_vw, if_neg (by omega), e3, tm_vc, if_pos ⟨rfl, by omega⟩, show (0 : Int) + (k - 0) = k by omega, k2.1]
end C0Q
