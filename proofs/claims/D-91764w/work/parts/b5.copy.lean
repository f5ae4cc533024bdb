/-! RULES: System.arraycopy between arrays of numbers of one kind -/
theorem te_co {ad : Int → Nat} {ca : Int → ClassId} {μ : tm_M} {a i b j n : Int} : ∀ q, q ≠ b → te_e ad ca (tm_c μ a i b j n) q = te_e ad ca μ q := by
  intro q hq
  have e : tm_v (tm_c μ a i b j n) q = tm_v μ q := by
    funext x
    rw [tm_vc, if_neg (fun c => hq c.1)]
  unfold te_e
  rw [e]
  rfl
theorem tw_cp {μ : tm_M} {a i b j n : Int} (hf : tw_f μ) (a1 : 1 ≤ a) (a2 : a < tm_z μ) (hk : tm_k μ a = tm_k μ b) (h20 : 20 ≤ tm_k μ b) : tw_f (tm_c μ a i b j n) := by
  refine ⟨hf.1, fun q h1 h2 => ⟨(hf.2 q h1 h2).1, fun x => ?_⟩⟩
  rw [tm_vc]
  split
  · rename_i e
    obtain ⟨rfl, -, -⟩ := e
    have k := (hf.2 a a1 a2).2 (i + (x - j))
    rw [tt_ta (by omega), hk] at k
    show tr_ok (tm_z μ) (tt_t (tm_k μ q) x.toNat) _
    rw [tt_ta h20]
    exact k
  · exact (hf.2 q h1 h2).2 x
theorem tR.cp {D : va_G} {A : Nat → Prop} {s : State} {ad : Int → Nat} {ca : Int → ClassId} {μ : tm_M} {H H1 : Heap} {a i b j n : Int} (hR : tR D A s ad ca μ H) (a1 : 1 ≤ a) (a2 : a < tm_z μ) (b1 : 1 ≤ b) (b2 : b < tm_z μ) (hk : tm_k μ a = tm_k μ b) (h20 : 20 ≤ tm_k μ b)
    (hP : va_P D tc_cl ((te_w ad ca μ).set (b - 1).toNat (ad b, te_e ad ca (tm_c μ a i b j n) b)) H1) (hD : va_D A ((te_w ad ca μ).set (b - 1).toNat (ad b, te_e ad ca (tm_c μ a i b j n) b))) : tR D A s ad ca (tm_c μ a i b j n) H1 := by
  have e := te_w_set (ad := ad) (ca := ca) (μ := μ) (μ' := tm_c μ a i b j n) b1 b2 rfl te_co
  rw [e] at hP hD
  exact ⟨tw_cp hR.1 a1 a2 hk h20, hP, hD, hR.2.2.2⟩
theorem tK2 {p : Program} {l : Launch} {e : Env} {R : Room} {s : State} {m : MethodId} {args : Array Value} {meth : Method} {c : Code} {D : va_G} {A : Nat → Prop} {sp : Int → Nat} {M : tM} {d mc ms : Nat} {ad : Int → Nat} {ca : Int → ClassId} {μ : tm_M} {H : Heap} {a b : Int} {k : Nat} (O : tO p l e R s m args meth c D A sp M d mc ms) (hR : tR D A s ad ca μ H) (h1 : 1 ≤ a) (h2 : a < tm_z μ) (hk : tm_k μ a = k) (b1 : 1 ≤ b) (b2 : b < tm_z μ) (hb : tm_k μ b = k) (hk2 : 20 ≤ k) : va_K D tc_cl [(ca a, tt_ty k 0), (ca b, tt_ty k 0)] s := by
  refine ⟨O.K.1, fun i q hq => ?_⟩
  cases i with
  | zero =>
    cases hq
    have := hR.2.2.2 a h1 h2 (by omega)
    rw [hk] at this
    exact this
  | succ i =>
    cases i with
    | zero =>
      cases hq
      have := hR.2.2.2 b b1 b2 (by omega)
      rw [hb] at this
      exact this
    | succ i => simp at hq
section COPY
variable {M : tM} {d mc ms : Nat} {F : tF} {pc : Nat} {L : tLs} {S : tSt} {μ : tm_M} {nc ns : Nat}
theorem cat_sum (ad : Int → Nat) : ∀ (S : tSt), ((S.map fun q => te_v ad q.1 q.2).map fun v => v.category).sum ≤ 2 * S.length
  | [] => by simp
  | q :: S => by
    have := cat_sum ad S
    have h2 : (te_v ad q.1 q.2).category ≤ 2 := by cases te_v ad q.1 q.2 <;> simp [Value.category]
    simp only [List.map_cons, List.sum_cons, List.length_cons]
    omega
theorem g_copy {idx k : Nat} {a i b j n : Int} (hd : decode M.2.1 pc = .ok (.invokestatic idx, 3)) (hq1 : Cond.methodLink M.1.cls idx arraycopyName ∈ lw_all) (hk2 : k = 20 ∨ k = 22 ∨ k = 23) (a1 : 1 ≤ a) (ka : tm_k μ a = k) (b1 : 1 ≤ b) (kb : tm_k μ b = k) (hi : 0 ≤ i) (hj : 0 ≤ j) (hn : 0 ≤ n) (hin : i + n ≤ tm_n μ a) (hjn : j + n ≤ tm_n μ b) (hS8 : S.length ≤ 8)
    (h : tH M d mc ms F (pc + 3) L S (tm_c μ a i b j n) nc ns) : tH M d mc ms F pc L ((0, n) :: (0, j) :: (2, b) :: (0, i) :: (2, a) :: S) μ nc ns := by
  intro p l e R s m args below meth c D A sp ad0 z0 O ad ca H locs ls hg hR hS hL hT hl
  have kn := ts_h hT
  have kj := ts_h (ts_t hT)
  have kb2 := tr_r (ts_h (ts_t (ts_t hT)))
  have ki := ts_h (ts_t (ts_t (ts_t hT)))
  have ka2 := tr_r (ts_h (ts_t (ts_t (ts_t (ts_t hT)))))
  have hk20 : 20 ≤ k := by omega
  have e3 : va_cpy (fun (x : Nat) => Int32.ofInt (tm_v μ a x)) (fun (x : Nat) => Int32.ofInt (tm_v μ b x)) (Int32.ofInt i).toNatClampNeg (Int32.ofInt j).toNatClampNeg (Int32.ofInt n).toNatClampNeg = fun (x : Nat) => Int32.ofInt (tm_v (tm_c μ a i b j n) b x) := by
    funext x
    rw [ti_cl kj hj, ti_cl ki hi, ti_cl kn hn]
    simp only [va_cpy, tm_vc, true_and]
    by_cases q : j.toNat ≤ x ∧ x < j.toNat + n.toNat
    · rw [if_pos q, if_pos (by omega), show ((i.toNat + (x - j.toNat) : Nat) : Int) = i + ((x : Int) - j) by omega]
    · rw [if_neg q, if_neg (by omega)]
  have tt0 : tt_t k 0 = 0 ∨ tt_t k 0 = 3 ∨ tt_t k 0 = 4 := by rcases hk2 with rfl | rfl | rfl <;> simp [tt_t, tt_ty, tt_f]
  have tec : ∀ f : Int → Int, te_c ad (tt_t k 0) f = .inl fun (x : Nat) => Int32.ofInt (f x) := fun f => by rcases tt0 with q | q | q <;> rw [q] <;> rfl
  have nonneg : ∀ x : Int, tr_s (tm_z μ) 0 x → 0 ≤ x → ¬ Int32.ofInt x < 0 := fun x hx h0 => by
    rw [c_0, c_lt hx (c_k0 _)]; omega
  refine W.eq (g2 := F0 m pc ls (.int (Int32.ofInt n) :: .int (Int32.ofInt j) :: .ref (ad b) :: .int (Int32.ofInt i) :: .ref (ad a) :: S.map fun q => te_v ad q.1 q.2)) (by rw [← va_rfr ad b1, ← va_rfr ad a1]; rfl) ?_
  refine va_copyi O.x O.b (by rw [O.ml]; exact hl.1.symm) (own := M.1.cls) (index := idx) O.own (O.ts _ hq1) (O.ts _ q652) (O.ts _ q651) (O.ts _ q131) (tK2 O hR a1 ka2.2 ka b1 kb2.2 kb hk20) hR.2.1 hR.2.2.1 hS (a - 1).toNat (b - 1).toNat 0 1 (a0 := ad a) (a := ad b) (c0 := ca a) (c1 := ca b) (n0 := (tm_n μ a).toNat) (n1 := (tm_n μ b).toNat) (f := fun (x : Nat) => Int32.ofInt (tm_v μ a x)) (g := fun (x : Nat) => Int32.ofInt (tm_v μ b x)) (ty := tt_ty k 0)
    (by rw [te_w_at ad ca μ a1 ka2.2, te_ea ka hk20, tec]) (by rw [te_w_at ad ca μ b1 kb2.2, te_ea kb hk20, tec]) rfl rfl (by rcases hk2 with rfl | rfl | rfl <;> rfl) (nonneg i ki hi) (nonneg j kj hj) (nonneg n kn hn) (by rw [ti_cl ki hi, ti_cl kn hn]; omega) (by rw [ti_cl kj hj, ti_cl kn hn]; omega) (fun x hx => ?_) (by have := O.rm; omega) ?_ hd (fun H1 locs1 hP1 hD1 hS1 => ?_)
  · have hv := (hR.1.2 a a1 ka2.2).2 (((Int32.ofInt i).toNatClampNeg + x : Nat) : Int)
    rw [ka, tt_ta hk20] at hv
    have hg2 : tt_g (tt_ty k 0) = true := by rcases hk2 with rfl | rfl | rfl <;> rfl
    have := (tn_ok (ad := ad) hg2 hv).2
    have e : te_v ad (tt_f (tt_ty k 0)) (tm_v μ a (((Int32.ofInt i).toNatClampNeg + x : Nat) : Int)) = .int (Int32.ofInt (tm_v μ a (((Int32.ofInt i).toNatClampNeg + x : Nat) : Int))) := by
      have : tt_f (tt_ty k 0) = tt_t k 0 := rfl
      rw [this]
      rcases tt0 with q | q | q <;> rw [q] <;> rfl
    rw [e] at this
    exact this
  · have h1 := cat_sum ad S
    have h2 := O.rm.2.1
    have h3 : nativeFrameWords "java/lang/System" "arraycopy" 5 ≤ 5000 := by decide +kernel
    omega
  · rw [e3] at hP1 hD1
    have e4 : te_e ad ca (tm_c μ a i b j n) b = .inl (ca b, (tm_n μ b).toNat, .inl fun (x : Nat) => Int32.ofInt (tm_v (tm_c μ a i b j n) b x)) := by
      rw [te_ea (μ := tm_c μ a i b j n) kb hk20, tec]; rfl
    rw [← e4] at hP1 hD1
    exact h p l e R s m args below meth c D A sp ad0 z0 O ad ca H1 locs1 ls hg (hR.cp a1 ka2.2 b1 kb2.2 (by rw [ka, kb]) (by rw [kb]; exact hk20) hP1 hD1) hS1 hL (ts_t (ts_t (ts_t (ts_t (ts_t hT))))) hl
theorem g_copyL {idx : Nat} {a i b j n : Int} (hd : decode M.2.1 pc = .ok (.invokestatic idx, 3)) (hq1 : Cond.methodLink M.1.cls idx arraycopyName ∈ lw_all) (a1 : 1 ≤ a) (ka : tm_k μ a = 21) (b1 : 1 ≤ b) (kb : tm_k μ b = 21) (hi : 0 ≤ i) (hj : 0 ≤ j) (hn : 0 ≤ n) (hin : i + n ≤ tm_n μ a) (hjn : j + n ≤ tm_n μ b) (hS8 : S.length ≤ 8)
    (h : tH M d mc ms F (pc + 3) L S (tm_c μ a i b j n) nc ns) : tH M d mc ms F pc L ((0, n) :: (0, j) :: (2, b) :: (0, i) :: (2, a) :: S) μ nc ns := by
  intro p l e R s m args below meth c D A sp ad0 z0 O ad ca H locs ls hg hR hS hL hT hl
  have kn := ts_h hT
  have kj := ts_h (ts_t hT)
  have kb2 := tr_r (ts_h (ts_t (ts_t hT)))
  have ki := ts_h (ts_t (ts_t (ts_t hT)))
  have ka2 := tr_r (ts_h (ts_t (ts_t (ts_t (ts_t hT)))))
  have hk20 : 20 ≤ 21 := by omega
  have e3 : va_cpy (fun (x : Nat) => Int64.ofInt (tm_v μ a x)) (fun (x : Nat) => Int64.ofInt (tm_v μ b x)) (Int32.ofInt i).toNatClampNeg (Int32.ofInt j).toNatClampNeg (Int32.ofInt n).toNatClampNeg = fun (x : Nat) => Int64.ofInt (tm_v (tm_c μ a i b j n) b x) := by
    funext x
    rw [ti_cl kj hj, ti_cl ki hi, ti_cl kn hn]
    simp only [va_cpy, tm_vc, true_and]
    by_cases q : j.toNat ≤ x ∧ x < j.toNat + n.toNat
    · rw [if_pos q, if_pos (by omega), show ((i.toNat + (x - j.toNat) : Nat) : Int) = i + ((x : Int) - j) by omega]
    · rw [if_neg q, if_neg (by omega)]
  have nonneg : ∀ x : Int, tr_s (tm_z μ) 0 x → 0 ≤ x → ¬ Int32.ofInt x < 0 := fun x hx h0 => by
    rw [c_0, c_lt hx (c_k0 _)]; omega
  refine W.eq (g2 := F0 m pc ls (.int (Int32.ofInt n) :: .int (Int32.ofInt j) :: .ref (ad b) :: .int (Int32.ofInt i) :: .ref (ad a) :: S.map fun q => te_v ad q.1 q.2)) (by rw [← va_rfr ad b1, ← va_rfr ad a1]; rfl) ?_
  refine va_copyl O.x O.b (by rw [O.ml]; exact hl.1.symm) (own := M.1.cls) (index := idx) O.own (O.ts _ hq1) (O.ts _ q652) (O.ts _ q651) (O.ts _ q131) (tK2 O hR a1 ka2.2 ka b1 kb2.2 kb hk20) hR.2.1 hR.2.2.1 hS (a - 1).toNat (b - 1).toNat 0 1 (a0 := ad a) (a := ad b) (c0 := ca a) (c1 := ca b) (n0 := (tm_n μ a).toNat) (n1 := (tm_n μ b).toNat) (f := fun (x : Nat) => Int64.ofInt (tm_v μ a x)) (g := fun (x : Nat) => Int64.ofInt (tm_v μ b x)) (ty := tt_ty 21 0)
    (by rw [te_w_at ad ca μ a1 ka2.2, te_ea ka hk20]; rfl) (by rw [te_w_at ad ca μ b1 kb2.2, te_ea kb hk20]; rfl) rfl rfl rfl (nonneg i ki hi) (nonneg j kj hj) (nonneg n kn hn) (by rw [ti_cl ki hi, ti_cl kn hn]; omega) (by rw [ti_cl kj hj, ti_cl kn hn]; omega) (fun x hx => rfl) (by have := O.rm; omega) ?_ hd (fun H1 locs1 hP1 hD1 hS1 => ?_)
  · have h1 := cat_sum ad S
    have h2 := O.rm.2.1
    have h3 : nativeFrameWords "java/lang/System" "arraycopy" 5 ≤ 5000 := by decide +kernel
    omega
  · rw [e3] at hP1 hD1
    have e4 : te_e ad ca (tm_c μ a i b j n) b = .inl (ca b, (tm_n μ b).toNat, .inr (.inl fun (x : Nat) => Int64.ofInt (tm_v (tm_c μ a i b j n) b x))) := te_ea (μ := tm_c μ a i b j n) kb hk20
    rw [← e4] at hP1 hD1
    exact h p l e R s m args below meth c D A sp ad0 z0 O ad ca H1 locs1 ls hg (hR.cp a1 ka2.2 b1 kb2.2 (by rw [ka, kb]) (by rw [kb]; exact hk20) hP1 hD1) hS1 hL (ts_t (ts_t (ts_t (ts_t (ts_t hT))))) hl
theorem p_c {W : Int → Int → Prop} {μ0 : tm_M} {a i b j n : Int} (hs : tFr W μ0 μ) (hb : tfr b) (hW : ∀ q, W b q) (k : ∀ m, m = tm_c μ a i b j n → tFr W μ0 m → tH M d mc ms F pc L S m nc ns) : tH M d mc ms F pc L S (tm_c μ a i b j n) nc ns := k _ rfl (hs.c hW (tS_c hs.S hb a i j n))
end COPY
