/-! RULES of new things -/
theorem tr_0 {z : Int} (hz : 1 ≤ z) {τ : Nat} (h : τ < 6) : tr_ok z τ 0 := by
  rcases (show τ = 0 ∨ τ = 1 ∨ τ = 2 ∨ τ = 3 ∨ τ = 4 ∨ τ = 5 by omega) with rfl | rfl | rfl | rfl | rfl | rfl
  · show -2147483648 ≤ (0 : Int) ∧ (0 : Int) ≤ 2147483647; omega
  · show -9223372036854775808 ≤ (0 : Int) ∧ (0 : Int) ≤ 9223372036854775807; omega
  · show 0 ≤ (0 : Int) ∧ (0 : Int) < z; omega
  · show -128 ≤ (0 : Int) ∧ (0 : Int) ≤ 127; omega
  · show -32768 ≤ (0 : Int) ∧ (0 : Int) ≤ 32767; omega
  · show 0 ≤ (0 : Int) ∧ (0 : Int) ≤ 1; omega
theorem te_cm {ad ad' : Int → Nat} {τ : Nat} {z : Int} {f : Int → Int} (hz : 0 ≤ z) (h : ∀ a, a < z → ad' a = ad a) (hx : ∀ j : Int, tr_ok z τ (f j)) : te_c ad' τ f = te_c ad τ f := by
  unfold te_c
  split
  · rfl
  · congr 4
    funext j
    have hx' : 0 ≤ f j ∧ f j < z := hx j
    unfold te_r
    rw [h _ hx'.2]
  · rfl
/-- the old cells under more addresses -/
theorem te_em {ad ad' : Int → Nat} {ca ca' : Int → ClassId} {μ : tm_M} {z : Int} (hz : 1 ≤ z) (h : ∀ a, a < z → ad' a = ad a) {b : Int} (hc : ca' b = ca b) (hx : ∀ j : Int, tr_ok z (tt_t (tm_k μ b) j.toNat) (tm_v μ b j)) : te_e ad' ca' μ b = te_e ad ca μ b := by
  unfold te_e
  split
  · congr 2
    refine List.map_congr_left fun j _ => ?_
    exact te_v_moved (z := z) (by omega) h (hx j)
  · rename_i q
    rw [hc, te_cm (z := z) (by omega) h (fun j => by have := hx j; rw [tt_ta (by omega)] at this; exact this)]
theorem tw_al {μ : tm_M} {k : Nat} {n : Int} (hf : tw_f μ) (hk : (k < 15 ∧ n = tt_nf k) ∨ (20 ≤ k ∧ k < 32 ∧ 0 ≤ n ∧ n ≤ 1000)) : tw_f (tm_a μ k n) := by
  have h0 := hf.1
  refine ⟨by rw [tm_za]; omega, fun b h1 h2 => ?_⟩
  rw [tm_za] at h2
  by_cases e : b = tm_z μ
  · subst e
    simp only [tm_ka, tm_na, tm_va, if_true, tm_za]
    exact ⟨hk, fun j => tr_0 (by omega) (tt_t6 _ _)⟩
  · have := hf.2 b h1 (by omega)
    simp only [tm_ka, tm_na, tm_va, if_neg e, tm_za]
    exact ⟨this.1, fun j => tr_up (by omega) (this.2 j)⟩
def tad (ad : Int → Nat) (z : Int) (q : Nat) : Int → Nat := fun a => if a = z then q else ad a
def tca (ca : Int → ClassId) (z : Int) (q : ClassId) : Int → ClassId := fun a => if a = z then q else ca a
theorem tR.al {D : va_G} {A : Nat → Prop} {s : State} {ad : Int → Nat} {ca : Int → ClassId} {μ : tm_M} {H H1 : Heap} {k : Nat} {n : Int} {q : Nat} {cA : ClassId} {E : va_E} (hR : tR D A s ad ca μ H) (hk : (k < 15 ∧ n = tt_nf k) ∨ (20 ≤ k ∧ k < 32 ∧ 0 ≤ n ∧ n ≤ 1000))
    (hE : te_e (tad ad (tm_z μ) q) (tca ca (tm_z μ) cA) (tm_a μ k n) (tm_z μ) = E) (hA : 20 ≤ k → ArrOfT s cA (tt_ty k 0) ∧ va_RA s cA (tt_ty k 0))
    (hP : va_P D tc_cl (te_w ad ca μ ++ [(q, E)]) H1) (hD : va_D A (te_w ad ca μ ++ [(q, E)])) : tR D A s (tad ad (tm_z μ) q) (tca ca (tm_z μ) cA) (tm_a μ k n) H1 := by
  have h0 := hR.1.1
  have e1 : (q, E) = (tad ad (tm_z μ) q (tm_z μ), te_e (tad ad (tm_z μ) q) (tca ca (tm_z μ) cA) (tm_a μ k n) (tm_z μ)) := by
    rw [hE]
    simp [tad]
  have e2 := te_w_app (ad := ad) (ad' := tad ad (tm_z μ) q) (ca := ca) (ca' := tca ca (tm_z μ) cA) (μ := μ) (μ' := tm_a μ k n) h0 rfl (fun b h1 h2 => by
    have hb : b ≠ tm_z μ := by omega
    have a1 : tad ad (tm_z μ) q b = ad b := by simp [tad, hb]
    have a2 : te_e (tad ad (tm_z μ) q) (tca ca (tm_z μ) cA) (tm_a μ k n) b = te_e (tad ad (tm_z μ) q) (tca ca (tm_z μ) cA) μ b := by
      have v1 : tm_v (tm_a μ k n) b = tm_v μ b := by funext i; simp [tm_va, hb]
      unfold te_e
      simp only [tm_ka, tm_na, if_neg hb, v1]
    rw [a1, a2, te_em (ad := ad) (ca := ca) (z := tm_z μ) h0 (fun a ha => by simp [tad]; omega) (by simp [tca, hb]) ((hR.1.2 b h1 h2).2)])
  rw [e1, e2] at hP hD
  refine ⟨tw_al hR.1 hk, hP, hD, fun a h1 h2 h3 => ?_⟩
  rw [tm_za] at h2
  by_cases e : a = tm_z μ
  · subst e
    simp only [tm_ka, if_true] at h3 ⊢
    simp only [tca, if_true]
    exact hA h3
  · simp only [tm_ka, if_neg e] at h3 ⊢
    simp only [tca, if_neg e]
    exact hR.2.2.2 a h1 (by omega) h3
theorem tg.al {sp ad0 : Int → Nat} {z0 : Int} {ad : Int → Nat} {μ : tm_M} (h : tg sp ad0 z0 ad μ) (k : Nat) (n : Int) (q : Nat) (h0 : 1 ≤ tm_z μ) : tg sp ad0 z0 (tad ad (tm_z μ) q) (tm_a μ k n) := by
  obtain ⟨h1, h2, h3, h4⟩ := h
  refine ⟨fun a ha => ?_, fun a ha => ?_, by rw [tm_za]; omega, h4⟩
  · rw [← h1 a ha]; simp [tad]; omega
  · rw [← h2 a ha]; simp [tad]; omega
theorem tv_al {ad : Int → Nat} {z : Int} (hz : 0 ≤ z) (q : Nat) {τ : Nat} {x : Int} (hx : tr_s z τ x) : te_v (tad ad z q) τ x = te_v ad τ x := te_v_moved hz (fun a ha => by simp [tad]; omega) hx.2
theorem tS_al {ad : Int → Nat} {z : Int} (hz : 0 ≤ z) (q : Nat) {S : tSt} (h : ∀ r ∈ S, tr_s z r.1 r.2) : (S.map fun r => te_v (tad ad z q) r.1 r.2) = S.map fun r => te_v ad r.1 r.2 := List.map_congr_left fun r hr => tv_al hz q (h r hr)
theorem tL_al {ad : Int → Nat} {z : Int} (hz : 0 ≤ z) (q : Nat) {L : tLs} (h : ∀ r ∈ L, tr_s z r.2.1 r.2.2) : (L.map fun r => (r.1, te_v (tad ad z q) r.2.1 r.2.2)) = L.map fun r => (r.1, te_v ad r.2.1 r.2.2) := List.map_congr_left fun r hr => by rw [tv_al hz q (h r hr)]
section NRULES
variable {M : tM} {d mc ms : Nat} {F : tF} {pc : Nat} {L : tLs} {S : tSt} {μ : tm_M} {nc ns : Nat}
theorem g_new {idx ci N : Nat} {C : String} {T : u_T} (hd : decode M.2.1 pc = .ok (.new idx, 3)) (K : tcK ci C T N) (hgd : ∀ j, j < N → tt_g (tt_ty ci j) = true) (hq : Cond.classLink M.1.cls idx C ∈ lw_all) (hq1 : Cond.instantiable C N ∈ lw_all) (hq2 : Cond.initialized C ∈ lw_all) (h1 : nc + 1 ≤ mc) (h2 : ns + N ≤ ms)
    (h : tH M d mc ms F (pc + 3) L ((2, tm_z μ) :: S) (tm_a μ ci N) (nc + 1) (ns + N)) : tH M d mc ms F pc L S μ nc ns := by
  intro p l e R s m args below meth c D A sp ad0 z0 O ad ca H locs ls hg hR hS hL hT hl
  have hz := hR.1.1
  have hrm := O.rm
  refine va_new (ci := ci) (fs := (List.range N).map fun (j : Nat) => te_v ad (tt_t ci j) 0) (C := C) (T := T) (N := N) O.x O.b O.ts K.2.1 (tt_ty ci) K.2.2.1 O.own (O.ts _ hq) (O.ts _ hq1) (O.ts _ hq2) O.K hR.2.1 hR.2.2.1 hS O.hA K.1 ?_ (by omega) (by omega) hd (fun q H1 hP1 hD1 hS1 => ?_)
  · intro j hj
    have e1 : vp_V ((List.range N).map fun (j : Nat) => te_v ad (tt_t ci j) 0) j = te_v ad (tt_t ci j) 0 := by
      unfold vp_V
      rw [List.getD_eq_getElem?_getD, List.getElem?_map, List.getElem?_range hj]
      rfl
    rw [e1]
    have := hgd j hj
    unfold tt_t
    cases hty : tt_ty ci j <;> first | rfl | (rw [hty] at this; cases this)
  · have hE : te_e (tad ad (tm_z μ) q) (tca ca (tm_z μ) 0) (tm_a μ ci N) (tm_z μ) = .inr (ci, (List.range N).map fun (j : Nat) => te_v ad (tt_t ci j) 0) := by
      rw [te_eo (ci := ci) (by simp [tm_ka]) (by have := K.2.2.2.2; omega), K.nf]
      congr 2
      refine List.map_congr_left fun j _ => ?_
      simp only [tm_va, if_true]
      exact te_v_moved (z := tm_z μ) (by omega) (fun a ha => by simp [tad]; omega) (tr_0 hz (tt_t6 _ _))
    have hR' := hR.al (k := ci) (n := N) (Or.inl ⟨K.2.2.2.2, by rw [K.nf]⟩) hE (fun q => by have := K.2.2.2.2; omega) hP1 hD1
    have k1 := h p l e R s m args below meth c D A sp ad0 z0 O (tad ad (tm_z μ) q) (tca ca (tm_z μ) 0) H1 locs ls (hg.al ci N q hz) hR' hS1 (fun r hr => tr_sup (by rw [tm_za]; omega) (hL r hr)) (ts_c (tr_k rfl (by rw [tm_za]; show 0 ≤ tm_z μ ∧ tm_z μ < tm_z μ + 1; omega)) (fun r hr => tr_sup (by rw [tm_za]; omega) (hT r hr))) (by rw [tL_al (by omega) q hL]; exact hl)
    refine W.eq ?_ k1
    show F0 m (pc + 3) ls (.ref q :: _) = F0 m (pc + 3) ls (te_v (tad ad (tm_z μ) q) 2 (tm_z μ) :: _)
    rw [tS_al (by omega) q hT]
    congr 2
    show _ = va_rf (te_r (tad ad (tm_z μ) q) (tm_z μ))
    rw [va_rfr _ hz]
    simp [tad]
theorem g_newarray {k : Nat} {atype : ArrayType} {n : Int} (hd : decode M.2.1 pc = .ok (.newarray atype, 2)) (hk : 20 ≤ k ∧ k < 25) (hty : newarray.typeOf atype = tt_ty k 0) (hq : Cond.arrayClass (tt_ty k 0) ∈ lw_all) (hn : 0 ≤ n ∧ n ≤ 1000) (h1 : nc + 1 ≤ mc) (h2 : ns + n.toNat ≤ ms)
    (h : tH M d mc ms F (pc + 2) L ((2, tm_z μ) :: S) (tm_a μ k n) (nc + 1) (ns + n.toNat)) : tH M d mc ms F pc L ((0, n) :: S) μ nc ns := by
  intro p l e R s m args below meth c D A sp ad0 z0 O ad ca H locs ls hg hR hS hL hT hl
  have hz := hR.1.1
  have hrm := O.rm
  have kn := ts_h hT
  have hg2 : tt_g (tt_ty k 0) = true ∧ componentBytes (tt_ty k 0) ≤ 8 := by
    rcases (show k = 20 ∨ k = 21 ∨ k = 22 ∨ k = 23 ∨ k = 24 by omega) with rfl | rfl | rfl | rfl | rfl <;> exact ⟨rfl, by decide⟩
  refine va_newa (ty := tt_ty k 0) (N' := n.toNat) (a0 := (n.toNat, te_c ad (tt_t k 0) (fun _ => 0))) O.x O.b (by rw [hty]; exact O.ts _ hq) hty O.K hR.2.1 hR.2.2.1 hS O.hA ?_ ?_ (ti_cl kn hn.1) ?_ (by omega) (by omega) hd (fun q cA H1 hK1 hP1 hD1 hS1 => ?_)
  · intro cA
    rcases (show k = 20 ∨ k = 21 ∨ k = 22 ∨ k = 23 ∨ k = 24 by omega) with rfl | rfl | rfl | rfl | rfl <;> rfl
  · intro q
    have := (c_lt kn (c_k0 (tm_z μ))).mp q
    omega
  · have : n.toNat * componentBytes (tt_ty k 0) ≤ 1000 * 8 := Nat.mul_le_mul (by omega) hg2.2
    omega
  · have hE : te_e (tad ad (tm_z μ) q) (tca ca (tm_z μ) cA) (tm_a μ k n) (tm_z μ) = .inl (cA, n.toNat, te_c ad (tt_t k 0) (fun _ => 0)) := by
      rw [te_ea (ci := k) (by simp [tm_ka]) (by omega)]
      have v1 : tm_v (tm_a μ k n) (tm_z μ) = fun _ => 0 := by funext i; simp [tm_va]
      rw [v1, te_cm (z := tm_z μ) (ad := ad) (by omega) (fun a ha => by simp [tad]; omega) (fun j => tr_0 hz (tt_t6 _ _))]
      simp [tca, tm_na]
    have hR' := hR.al (k := k) (n := n) (Or.inr ⟨hk.1, by omega, hn.1, hn.2⟩) hE (fun _ => hK1.2 0 _ rfl) hP1 hD1
    have k1 := h p l e R s m args below meth c D A sp ad0 z0 O (tad ad (tm_z μ) q) (tca ca (tm_z μ) cA) H1 locs ls (hg.al k n q hz) hR' hS1 (fun r hr => tr_sup (by rw [tm_za]; omega) (hL r hr)) (ts_c (tr_k rfl (by rw [tm_za]; show 0 ≤ tm_z μ ∧ tm_z μ < tm_z μ + 1; omega)) (fun r hr => tr_sup (by rw [tm_za]; omega) (ts_t hT r hr))) (by rw [tL_al (by omega) q hL]; exact hl)
    refine W.eq ?_ k1
    show F0 m (pc + 2) ls (.ref q :: _) = F0 m (pc + 2) ls (te_v (tad ad (tm_z μ) q) 2 (tm_z μ) :: _)
    rw [tS_al (by omega) q (ts_t hT)]
    congr 2
    show _ = va_rf (te_r (tad ad (tm_z μ) q) (tm_z μ))
    rw [va_rfr _ hz]
    simp [tad]
theorem g_anew {k idx : Nat} {C : String} {n : Int} (hd : decode M.2.1 pc = .ok (.anewarray idx, 3)) (hk : 25 ≤ k ∧ k < 30) (hty : tt_ty k 0 = .object C) (hq : Cond.classLink M.1.cls idx C ∈ lw_all) (hq1 : Cond.arrayOver (.object C) ∈ lw_tbl) (hn : 0 ≤ n ∧ n ≤ 1000) (h1 : nc + 1 ≤ mc) (h2 : ns + n.toNat ≤ ms)
    (h : tH M d mc ms F (pc + 3) L ((2, tm_z μ) :: S) (tm_a μ k n) (nc + 1) (ns + n.toNat)) : tH M d mc ms F pc L ((0, n) :: S) μ nc ns := by
  intro p l e R s m args below meth c D A sp ad0 z0 O ad ca H locs ls hg hR hS hL hT hl
  have hz := hR.1.1
  have hrm := O.rm
  have kn := ts_h hT
  have hAO : va_AO C s := by
    obtain ⟨s0, b, ht, -, -, -, hW, -⟩ := O.B
    exact va_AO.moved hW.alike (va_AO.of (ht _ hq1))
  have ht2 : tt_t k 0 = 2 := by unfold tt_t; rw [hty]; rfl
  refine va_newq (N' := n.toNat) O.x O.b O.own (O.ts _ hq) hAO O.K hR.2.1 hR.2.2.1 hS O.hA ?_ (ti_cl kn hn.1) (by omega) (by omega) (by omega) hd (fun q cA H1 hK1 hP1 hD1 hS1 => ?_)
  · intro q
    have := (c_lt kn (c_k0 (tm_z μ))).mp q
    omega
  · have hE : te_e (tad ad (tm_z μ) q) (tca ca (tm_z μ) cA) (tm_a μ k n) (tm_z μ) = .inl (cA, n.toNat, .inr (.inr (.inr (.inr (fun _ => none))))) := by
      rw [te_ea (ci := k) (by simp [tm_ka]) (by omega), ht2]
      have v1 : tm_v (tm_a μ k n) (tm_z μ) = fun _ => 0 := by funext i; simp [tm_va]
      rw [v1]
      simp [tca, tm_na, te_c, te_r]
    have hR' := hR.al (k := k) (n := n) (Or.inr ⟨by omega, by omega, hn.1, hn.2⟩) hE (fun _ => by rw [hty]; exact hK1.2 0 _ rfl) hP1 hD1
    have k1 := h p l e R s m args below meth c D A sp ad0 z0 O (tad ad (tm_z μ) q) (tca ca (tm_z μ) cA) H1 locs ls (hg.al k n q hz) hR' hS1 (fun r hr => tr_sup (by rw [tm_za]; omega) (hL r hr)) (ts_c (tr_k rfl (by rw [tm_za]; show 0 ≤ tm_z μ ∧ tm_z μ < tm_z μ + 1; omega)) (fun r hr => tr_sup (by rw [tm_za]; omega) (ts_t hT r hr))) (by rw [tL_al (by omega) q hL]; exact hl)
    refine W.eq ?_ k1
    show F0 m (pc + 3) ls (.ref q :: _) = F0 m (pc + 3) ls (te_v (tad ad (tm_z μ) q) 2 (tm_z μ) :: _)
    rw [tS_al (by omega) q (ts_t hT)]
    congr 2
    show _ = va_rf (te_r (tad ad (tm_z μ) q) (tm_z μ))
    rw [va_rfr _ hz]
    simp [tad]
end NRULES
