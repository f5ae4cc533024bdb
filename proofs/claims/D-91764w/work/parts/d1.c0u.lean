/-! CONTRACTS of the component: drawn, the best draw -/
section C0U
variable {d : Nat} {μ μ0 ν : tm_M} {W : Int → Int → Prop} {w v n t k : Int}
theorem shl64 (a : Int) : Int64.ofInt a <<< (8 : Int64) = Int64.ofInt (a * 2 ^ 8) ∧ Int64.ofInt a <<< (16 : Int64) = Int64.ofInt (a * 2 ^ 16) ∧ Int64.ofInt a <<< (24 : Int64) = Int64.ofInt (a * 2 ^ 24) ∧ Int64.ofInt a <<< (32 : Int64) = Int64.ofInt (a * 2 ^ 32) ∧ Int64.ofInt a <<< (40 : Int64) = Int64.ofInt (a * 2 ^ 40) := by
  have h : ∀ (b : Int64) (i : Nat), (b.toBitVec.smod 64) = BitVec.ofNat 64 i → i < 64 → Int64.ofInt a <<< b = Int64.ofInt (a * 2 ^ i) := by
    intro b i hb hi
    rw [← Int64.toBitVec_inj]
    show (BitVec.ofInt 64 a) <<< (b.toBitVec.smod 64) = BitVec.ofInt 64 (a * 2 ^ i)
    rw [hb, BitVec.ofInt_mul]
    have e1 : (BitVec.ofInt 64 a) <<< (BitVec.ofNat 64 i) = (BitVec.ofInt 64 a) <<< i := by
      show (BitVec.ofInt 64 a) <<< (BitVec.ofNat 64 i).toNat = _
      rw [BitVec.toNat_ofNat, Nat.mod_eq_of_lt (by omega)]
    rw [e1, BitVec.shiftLeft_eq_mul_twoPow]
    congr 1
    apply BitVec.eq_of_toNat_eq
    rw [BitVec.toNat_twoPow]
    have e9 : ((2 : Int) ^ i) = ((2 ^ i : Nat) : Int) := by simp
    rw [e9, BitVec.toNat_ofInt]
    have e8 : (((2 ^ i : Nat) : Int) % ((2 ^ 64 : Nat) : Int)) = ((2 ^ i % 2 ^ 64 : Nat) : Int) := (Int.natCast_emod _ _).symm
    rw [e8, Int.toNat_natCast]
  exact ⟨h 8 8 (by decide) (by decide), h 16 16 (by decide) (by decide), h 24 24 (by decide) (by decide), h 32 32 (by decide) (by decide), h 40 40 (by decide) (by decide)⟩
theorem l_shl_who (hW : y_W ν) (hk : 1 ≤ k ∧ k ≤ 5) : l_shl (y_all ν) (w32 (8 * k)) = y_who ν k := by
  have hw := y_who_in hW (k := k) (by omega)
  have hs := shl64 (y_all ν)
  have hal := y_all_in hW
  unfold y_who at hw ⊢
  unfold l_shl
  rcases (show k = 1 ∨ k = 2 ∨ k = 3 ∨ k = 4 ∨ k = 5 by omega) with e | e | e | e | e <;> subst e
  · have h1 : (Int32.ofInt (w32 (8 * 1))).toInt64 &&& 63 = (8 : Int64) := by decide
    rw [h1, hs.1]; exact w64_id (by omega) (by omega)
  · have h1 : (Int32.ofInt (w32 (8 * 2))).toInt64 &&& 63 = (16 : Int64) := by decide
    rw [h1, hs.2.1]; exact w64_id (by omega) (by omega)
  · have h1 : (Int32.ofInt (w32 (8 * 3))).toInt64 &&& 63 = (24 : Int64) := by decide
    rw [h1, hs.2.2.1]; exact w64_id (by omega) (by omega)
  · have h1 : (Int32.ofInt (w32 (8 * 4))).toInt64 &&& 63 = (32 : Int64) := by decide
    rw [h1, hs.2.2.2.1]; exact w64_id (by omega) (by omega)
  · have h1 : (Int32.ofInt (w32 (8 * 5))).toInt64 &&& 63 = (40 : Int64) := by decide
    rw [h1, hs.2.2.2.2]; exact w64_id (by omega) (by omega)
theorem pX0_wrongDraws {g : Int} (hd : 2 ≤ d) (hs : tS μ) (hJ : JU μ ν) (hV : JV μ ν) (hg : g ≠ 0 ↔ (0 ≤ n ∧ n ≤ 16)) : cI w0 mX0_wrongDraws d [(2, 1), (0, w), (0, v), (0, t), (0, k), (0, g)] μ (fun r _ => r = r_asks ν w v n t k) := by
  unfold r_asks
  refine t_of (uX0_wrongDraws_0 (ν := ν) hd (tFr.rf hs) ⟨hV, fun c => by rw [if_pos (fun q => c q.1)], fun cw => ⟨fun cv => ?_, fun c => by rw [if_pos (fun q => c q.2)]⟩⟩)
  rw [if_neg (fun q => q ⟨cw, cv⟩)]
  refine ⟨fun c => by rw [if_pos (fun q => hg.mpr q.1 c)], fun cg => ⟨fun c => by rw [if_pos (by omega)], fun c1 => ⟨fun c => by rw [if_pos (by omega)], fun c2 => ⟨fun c => by rw [if_pos (by omega)], fun c3 => ⟨fun c4 => ⟨hJ, fun c5 => ?_, fun c5 => ?_⟩, fun c => by rw [if_pos (by omega)]⟩⟩⟩⟩⟩
  · rw [if_neg (fun q => q ⟨hg.mp cg, ⟨c1, c2⟩, c3, c4⟩), if_neg c5]
  · rw [if_neg (fun q => q ⟨hg.mp cg, ⟨c1, c2⟩, c3, c4⟩), if_pos c5]
theorem pX0_tellMet {x : Int} (hd : 2 ≤ d) (hs : tS μ) (hJ : JU μ ν) (hk : 1 ≤ k ∧ k ≤ 5) (ha : y_all ν ≠ 0) (hx : 0 ≤ x ∧ x ≤ y_who ν k) : cI (tWs [] [(1, 10), (1, 14), (1, 15)]) mX0_tellMet d [(2, 1), (1, x), (0, k)] μ (fun r m => r = 1 ∧ m = c_fr μ (y_who ν k - x) (y_who ν k)) := by
  have hw := y_who_in hJ.1 (k := k) (by omega)
  have hp := y_who_pos hJ.1 (k := k) (by omega) ha
  refine t_of (uX0_tellMet_0 (ν := ν) hd (tFr.rf hs) ⟨hJ, ?_⟩)
  rw [l_shl_who hJ.1 hk]
  rintro _ rfl
  rw [w64_id (by omega) (by omega)]
  exact tC.I (pX0_tell (by omega) hs (by omega) (by omega)) (fun r m fm hr => ⟨by rw [hr.1]; decide, hr⟩)
theorem pX0_drawn (hd : 5 ≤ d) (hs : tS μ) (hJ : JU μ ν) (hV : JV μ ν) (hF : JF μ ν) : cI (tWs [7, 8, 48, 49] [(1, 10), (1, 14), (1, 15)]) mX0_drawn d [(2, 1), (0, w), (0, v), (0, n), (0, t), (0, k)] μ (c_o (r_drawn ν w v n t k)) := by
  have hr0 := r_asks_0 (μ := ν) (w := w) (v := v) (n := n) (t := t) (k := k)
  have all : ∀ g, (g ≠ 0 ↔ (0 ≤ n ∧ n ≤ 16)) → cI w0 mX0_wrongDraws (d - 1) [(2, 1), (0, w), (0, v), (0, t), (0, k), (0, g)] μ (fun r4 μ3 => (r4 ≤ 0 → cL (tWs [7, 8, 48, 49] []) mX0_apart (d - 1) [(2, 1), (0, w), (0, v), (0, n), (0, t), (0, k)] μ3 (fun r8 μ7 => cI (tWs [] [(1, 10), (1, 14), (1, 15)]) mX0_tellMet (d - 1) [(2, 1), (1, r8), (0, k)] μ7 (fun r10 μ9 => (0 ≤ r10 ∧ r10 ≤ 1) ∧ (c_o (r_drawn ν w v n t k) r10 μ9)))) ∧ (0 < r4 → (∀ μ12, μ12 = tm_w μ3 1 10 r4 → (0 ≤ b2i (r4 = 0) ∧ b2i (r4 = 0) ≤ 1) ∧ (c_o (r_drawn ν w v n t k) (b2i (r4 = 0)) μ12)))) := by
    intro g hg
    refine tC.I (pX0_wrongDraws (by omega) hs hJ hV hg) (fun r m fm hr => ?_)
    have em := fm.same
    subst em
    subst hr
    unfold r_drawn
    refine ⟨fun c => ?_, fun c m2 e2 => ⟨b2i_in _, ?_⟩⟩
    · rw [if_neg (by omega)]
      obtain ⟨hw, hv, hn, ht, hk, ha⟩ := r_asks_ok hV.1 c
      obtain ⟨K, hK⟩ : ∃ K : Nat, k = K := ⟨k.toNat, by omega⟩
      subst hK
      have hsum := dr_sum (t := t) hJ.1 hw hv hn K
      refine tC.L (pX0_apart (k := K) (by omega) hs hJ hV hw hv hn (by omega) (by omega)) (fun r m2 f2 hr => ?_)
      subst hr
      refine tC.I (pX0_tellMet (ν := ν) (by omega) f2.S (JU_F hJ f2 (tWs_TC ⟨rfl, rfl⟩)) hk ha (by unfold y_who; rw [Int.toNat_natCast]; exact hsum)) (fun r3 m3 f3 h3 => ⟨by rw [h3.1]; decide, ?_⟩)
      have hv3 := c_fr_v (μ := m2) (y_who ν K - sm (dr_i ν w v n t K) 64) (y_who ν K)
      rw [h3.1, h3.2]
      have e1 : y_mt ν w v n t K = y_who ν K - sm (dr_i ν w v n t K) 64 := by unfold y_mt y_who; rw [Int.toNat_natCast]
      rw [e1]
      exact ⟨rfl, hv3⟩
    · rw [if_pos c, b2i_f (by omega), e2]
      exact ⟨rfl, by simp [tm_vw], by simp [tm_vw]; exact hF.1, by simp [tm_vw]; exact hF.2⟩
  exact t_of (uX0_drawn_0 (by omega) (tFr.rf hs) ⟨fun c => all 0 ⟨fun h => absurd rfl h, fun h => by omega⟩, fun c1 => ⟨fun c => all 0 ⟨fun h => absurd rfl h, fun h => by omega⟩, fun c2 => all 1 ⟨fun _ => ⟨c1, c2⟩, fun _ => by decide⟩⟩⟩)
theorem pX0_bestDrawn (hd : 5 ≤ d) (hs : tS μ) (hJ : JU μ ν) (hV : JV μ ν) (hF : JF μ ν) : cI (tWs [7, 8, 48, 49] [(1, 10), (1, 14), (1, 15)]) mX0_bestDrawn d [(2, 1), (0, w), (0, v), (0, t), (0, k)] μ (c_o (r_bestDrawn ν w v t k)) := by
  have hT : y_TC (c_FA μ) (tWs [7, 8, 48, 49] [(1, 10), (1, 14), (1, 15)]) := tWs_TC ⟨rfl, rfl⟩
  have hC : y_VC (tWs [7, 8, 48, 49] [(1, 10), (1, 14), (1, 15)]) := tWs_VC rfl
  refine t_of (uX0_bestDrawn_0 (by omega) (tFr.rf hs) ?_)
  refine tC.I (pX0_wrongDraws (n := 0) (by omega) hs hJ hV ⟨fun _ => by omega, fun _ => by decide⟩) (fun r m fm hr => ?_)
  have em := fm.same
  subst em
  subst hr
  unfold r_bestDrawn
  refine ⟨fun c => ?_, fun c m2 e2 => ?_⟩
  · rw [if_neg (by omega)]
    obtain ⟨hw, hv, _, ht, hk, ha⟩ := r_asks_ok hV.1 c
    obtain ⟨K, hK⟩ : ∃ K : Nat, k = K := ⟨k.toNat, by omega⟩
    subst hK
    have emt : ∀ n, y_mt ν w v n t K = y_who ν K - sm (dr_i ν w v n t K) 64 := fun n => by unfold y_mt y_who; rw [Int.toNat_natCast]
    have loop : ∀ (q i : Nat) (m2 : tm_M), i + q = 16 → tFr (tWs [7, 8, 48, 49] [(1, 10), (1, 14), (1, 15)]) m m2 → hI (tWs [7, 8, 48, 49] [(1, 10), (1, 14), (1, 15)]) m mX0_bestDrawn d (c_o ((bd ν w v t K 16).1, 0, frt (bd ν w v t K 16).2 (y_who ν K), frb (bd ν w v t K 16).2 (y_who ν K))) 42 [(0, 2, 1), (1, 0, w), (2, 0, v), (3, 0, t), (4, 0, (K : Int)), (6, 0, (bd ν w v t K i).1), (7, 1, y_who ν K - (bd ν w v t K i).2), (9, 0, (i : Int) + 1)] [] m2 := by
      intro q
      induction q with
      | zero =>
        intro i m2 hi hm
        have hb := bd_in (t := t) (k := (K : Int)) hJ.1 hw hv i (by omega)
        refine uX0_bestDrawn_42 (by omega) hm ⟨fun _ => ?_, fun c => by omega⟩
        refine tC.I (pX0_tellMet (ν := ν) (by omega) hm.S (JU_F hJ hm hT) hk ha (by omega)) (fun r3 m3 f3 h3 m4 e4 => ?_)
        have hv3 := c_fr_v (μ := m2) (y_who ν K - (y_who ν K - (bd ν w v t K i).2)) (y_who ν K)
        rw [show y_who ν K - (y_who ν K - (bd ν w v t K i).2) = (bd ν w v t K i).2 by omega] at hv3 h3
        rw [show i = 16 by omega] at hv3 h3 ⊢
        refine ⟨rfl, by rw [e4]; simp [tm_vw], ?_, ?_⟩
        · rw [e4, tm_vw, if_neg (by omega), h3.2]; exact hv3.2.1
        · rw [e4, tm_vw, if_neg (by omega), h3.2]; exact hv3.2.2
      | succ q ih =>
        intro i m2 hi hm
        refine uX0_bestDrawn_42 (by omega) hm ⟨fun c => by omega, fun _ => ?_⟩
        refine tC.L (pX0_apart (k := K) (n := (i : Int) + 1) (by omega) hm.S (JU_F hJ hm hT) (JV_F hJ hV hm hT hC) hw hv (by omega) (by omega) (by omega)) (fun r m3 f3 hr => ?_)
        subst hr
        have F3 := hm.tr f3 (tWs_sub rfl)
        have e1 : w32 ((i : Int) + 1 + 1) = ((i + 1 : Nat) : Int) + 1 := by rw [w32_id (by omega) (by omega)]; omega
        have ebd : bd ν w v t K (i + 1) = if (bd ν w v t K i).2 < y_mt ν w v (i + 1) t K then ((i : Int) + 1, y_mt ν w v (i + 1) t K) else bd ν w v t K i := by rw [bd]
        have em := emt ((i : Int) + 1)
        have h := ih (i + 1) m3 (by omega) F3
        rw [e1]
        refine ⟨fun c => ?_, fun c => ?_⟩
        · rw [ebd, if_pos (by omega)] at h
          rw [show y_who ν K - ((i : Int) + 1, y_mt ν w v (i + 1) t K).2 = sm (dr_i ν w v ((i : Int) + 1) t K) 64 by dsimp only; omega] at h
          exact h
        · rw [ebd, if_neg (by omega)] at h
          exact h
    refine tC.L (pX0_apart (k := K) (n := 0) (by omega) hs hJ hV hw hv (by omega) (by omega) (by omega)) (fun r m3 f3 hr => ?_)
    subst hr
    have h := loop 16 0 m3 rfl (f3.to (tWs_sub rfl))
    have e0 : bd ν w v t K 0 = (0, y_mt ν w v 0 t K) := by rw [bd]
    rw [e0, show y_who ν K - ((0 : Int), y_mt ν w v 0 t K).2 = sm (dr_i ν w v 0 t K) 64 by have := emt 0; dsimp only; omega] at h
    exact h
  · rw [if_pos c, e2]
    exact ⟨rfl, by simp [tm_vw], by simp [tm_vw]; exact hF.1, by simp [tm_vw]; exact hF.2⟩
end C0U
theorem tWs_s1 {A : List Int} {B : List (Int × Int)} {x lo : Int} {n : Nat} (h : (List.range n).all (fun i => decide (lo + (i : Int) ∈ A)) = true) (hx : lo ≤ x ∧ x < lo + n) : ∀ a j, tWs [x] [] a j → tWs A B a j := by
  rintro a j (q | q)
  · rw [List.mem_singleton.mp q]
    exact tWs_r h hx
  · cases q
