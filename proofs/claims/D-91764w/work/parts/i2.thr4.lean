/-! THROWABLE with four arguments: what stands in the object while it is made may be older than the run -/
section TH4
variable {D : va_G} {A : Nat → Prop} {sp : Int → Nat} {s : State}
theorem tB.stv (h : tB D A sp s) {n d : String} (hl : Cond.laysStatic "java/lang/Throwable" n d ∈ lw_tbl) (hi : Cond.isRef (.static "java/lang/Throwable" n d) ∈ flatC (Jvm.Cond.and given_1 narrow_1)) : ∃ v : Value, (v = .null ∨ ∃ x, v = .ref x) ∧ va_Z "java/lang/Throwable" n d v A s s.heap := by
  obtain ⟨s0, b, ht, hn, -, hA, hW, -, ho, -⟩ := h
  have hb := flat_of_before _ hn _ hi
  have e0 : ∃ v, (Term.static "java/lang/Throwable" n d).eval #[Value.ref b] s0 none [] s0 = some v ∧ (v = .null ∨ ∃ x, v = .ref x) := by
    simp only [Cond.before, Cond.holds, Cond.value] at hb
    cases hv : (Term.static "java/lang/Throwable" n d).eval #[Value.ref b] s0 none [] s0 with
    | none => simp [hv] at hb
    | some v =>
      refine ⟨v, rfl, ?_⟩
      cases v with
      | null => exact Or.inl rfl
      | ref x => exact Or.inr ⟨x, rfl⟩
      | _ => simp [hv] at hb
  obtain ⟨v, hv, hr⟩ := e0
  have z0 : va_Z "java/lang/Throwable" n d v A s0 s0.heap := va_Zof (ht _ hl) (ht _ (lw_all_tbl q117)) hv (fun a ha hc => by have := (hA a).mp hc; omega)
  exact ⟨v, hr, (z0.moved hW.alike).kept (fun a ha _ => ho a ha)⟩
end TH4
section TH4b
variable {p : Program} {l : Launch} {e : Env} {R : Room} {s : State} {m : MethodId} {args : Array Value} {below : List Frame} {meth : Method} {c : Code} {D : va_G} {A : Nat → Prop} {sp : Int → Nat} {M : tM} {d mc ms : Nat} {H : Heap} {locs : List Loc} {cells slots : Nat} {Q : State → Prop} {pc : Nat} {ls : Array Slot} {rest : List Value}
theorem va_putX (O : tO p l e R s m args meth c D A sp M d mc ms) {idx k a q0 : Nat} {kI : Int} (hkI : kI = k) (f : tfl M.1.cls idx 1 kI 2 false) {W0 : va_W} {gs : List Value} {v : Value} (hv : v = .null ∨ ∃ y, v = .ref y) (hq0 : q0 < W0.length) (hP : va_P D tc_cl (W0.set q0 (a, .inr (1, gs))) H) (hD : va_D A (W0.set q0 (a, .inr (1, gs)))) (hS : va_S A s.heap H locs) (hl : k < gs.length) (hd : decode M.2.1 pc = .ok (.putfield idx, 3))
    (kk : ∀ (H1 : Heap) (locs1 : List Loc), va_P D tc_cl (W0.set q0 (a, .inr (1, gs.set k v))) H1 → va_D A (W0.set q0 (a, .inr (1, gs.set k v))) → va_S A s.heap H1 locs1 → W p l e R s m args below meth c H1 locs1 cells slots Q (F0 m (pc + 3) ls rest)) :
    W p l e R s m args below meth c H locs cells slots Q (F0 m pc ls (v :: .ref a :: rest)) := by
  obtain ⟨C, T, N, ref, k', hkI', K, hN, hτ, hgd, h3, hfn, hsm, hlk⟩ := f
  have ek : k' = k := by omega
  subst ek
  have nf : narrow (tt_ty 1 k') v = v ∧ fits (tt_ty 1 k') v = true := by
    have t2 : tt_f (tt_ty 1 k') = 2 := hτ
    rcases hv with rfl | ⟨y, rfl⟩
    · have := tn_ok (ad := fun _ => 0) (ty := tt_ty 1 k') (z := 1) (x := 0) hgd (by rw [t2]; exact ⟨by decide, by decide⟩)
      rw [t2] at this
      exact this
    · have := tn_ok (ad := fun _ => y) (ty := tt_ty 1 k') (z := 2) (x := 1) hgd (by rw [t2]; exact ⟨by decide, by decide⟩)
      rw [t2] at this
      exact this
  have e0 : (W0.set q0 (a, (.inr (1, gs) : va_E)))[q0]? = some (a, .inr (1, gs)) := List.getElem?_set_self hq0
  have kk' : ∀ (H1 : Heap) (locs1 : List Loc), va_P D tc_cl ((W0.set q0 (a, .inr (1, gs))).set q0 (a, .inr (1, gs.set k' v))) H1 → va_D A ((W0.set q0 (a, .inr (1, gs))).set q0 (a, .inr (1, gs.set k' v))) → va_S A s.heap H1 locs1 → W p l e R s m args below meth c H1 locs1 cells slots Q (F0 m (pc + 3) ls rest) := by
    intro H1 locs1 g1 g2 g3
    rw [List.set_set] at g1 g2
    exact kk H1 locs1 g1 g2 g3
  rcases hlk with q | ⟨host, q⟩
  · exact va_put O.x O.b O.ts K.2.1 (tt_ty 1) K.2.2.1 K.2.2.2.1 O.own O.K hP hD hS q0 e0 K.1 k' hN (O.ts _ q) (tf_same O.ts hsm) hfn (K.2.2.1 k' hN) nf.1 nf.2 hl hd kk'
  · exact va_putN O.x O.b O.ts K.2.1 (tt_ty 1) K.2.2.1 K.2.2.2.1 O.own O.K hP hD hS q0 e0 K.1 k' hN (O.N q rfl (fun _ _ w z => va_Nw.warmF w z)) (tf_same O.ts hsm) hfn (K.2.2.1 k' hN) nf.1 nf.2 hl hd kk'
end TH4b
section TH4c
variable {d mc ms : Nat} {F : tF} {μ : tm_M} {nc ns : Nat} {x : Int}
/-- the four fields are null -/
def th4 (μ : tm_M) (x : Int) : tm_M := tm_w (tm_w (tm_w (tm_w μ x 1 0) x 3 0) x 0 0) x 2 0
theorem th4_l (fs : List Value) (u w : Value) : ((((((fs.set 1 u).set 2 w).set 1 .null).set 3 .null).set 0 .null).set 2 .null) = ((((fs.set 1 .null).set 3 .null).set 0 .null).set 2 .null) := by
  rcases fs with _ | ⟨a, _ | ⟨b, _ | ⟨c, _ | ⟨d, r⟩⟩⟩⟩ <;> rfl
theorem g_thr4 (h1 : 1 ≤ x) (hk : tm_k μ x = 1) (h : tH mJ0_init_2 d mc ms F 60 [(0, 2, x), (1, 2, 0), (2, 2, 0), (3, 0, 0), (4, 0, 0)] [] (th4 μ x) nc ns) : tH mJ0_init_2 d mc ms F 9 [(0, 2, x), (1, 2, 0), (2, 2, 0), (3, 0, 0), (4, 0, 0)] [] μ nc ns := by
  intro p l e R s m args below meth c D A sp ad0 z0 O ad ca H locs ls hg hR hS hL hT hl
  have kx : x < tm_z μ := (tr_r (hL (0, 2, x) (by simp))).2
  have k1 : (Cond.isRef (.static Bundle.tN "UNASSIGNED_STACK" Bundle.steD)) ∈ flatC (Jvm.Cond.and given_1 narrow_1) := by simpa using t_sA.1
  have k2 : (Cond.isRef (.static Bundle.tN "SUPPRESSED_SENTINEL" Bundle.listD)) ∈ flatC (Jvm.Cond.and given_1 narrow_1) := by simpa using t_sA.2
  obtain ⟨u, hu, Zu⟩ := O.B.stv q179 k1
  obtain ⟨w, hw, Zw⟩ := O.B.stv q181 k2
  have l0 := lv_at hl 0 (i := 0) (v := .ref (ad x)) (by show some (0, va_rf (te_r ad x)) = _; rw [va_rfr ad h1])
  have l1 := lv_at hl 1 (i := 1) (v := .null) rfl
  have l2 := lv_at hl 2 (i := 2) (v := .null) rfl
  have l3 := lv_at hl 3 (i := 3) (v := .int 0) rfl
  have l4 := lv_at hl 4 (i := 4) (v := .int 0) rfl
  have hq0 : (x - 1).toNat < (te_w ad ca μ).length := by rw [te_w_len]; omega
  generalize hfs : ((List.range (tt_nf 1)).map fun (j : Nat) => te_v ad (tt_t 1 j) (tm_v μ x j)) = fs
  have e0 : (te_w ad ca μ)[(x - 1).toNat]? = some (ad x, .inr (1, fs)) := by
    rw [te_w_at ad ca μ h1 kx, te_eo hk (by decide), hfs]
  have n8 : fs.length = 8 := by rw [← hfs]; simp; rfl
  have es : (te_w ad ca μ) = (te_w ad ca μ).set (x - 1).toNat (ad x, .inr (1, fs)) := by
    refine List.ext_getElem? fun i => ?_
    by_cases q : (x - 1).toNat = i
    · subst q; rw [List.getElem?_set_self hq0]; exact e0
    · rw [List.getElem?_set_ne q]
  have P0 := hR.2.1
  have D0 := hR.2.2.1
  rw [es] at P0 D0
  refine lv_aload_n O.x O.b dJ0_init_2_9 rfl l0 ?_
  refine va_gets O.x O.b Zu hS O.own (O.ts _ q178) (fun _ q => q) dJ0_init_2_10 ?_
  refine va_putX O (k := 1) rfl fJ0_17 hu hq0 P0 D0 hS (by omega) dJ0_init_2_13 (fun H1 locs1 P1 D1 S1 => ?_)
  refine lv_aload_n O.x O.b dJ0_init_2_16 rfl l0 ?_
  refine va_gets O.x O.b Zw S1 O.own (O.ts _ q180) (fun _ q => q) dJ0_init_2_17 ?_
  refine va_putX O (k := 2) rfl fJ0_24 hw hq0 P1 D1 S1 (by rw [List.length_set]; omega) dJ0_init_2_20 (fun H2 locs2 P2 D2 S2 => ?_)
  refine lv_iload O.x O.b dJ0_init_2_23 l4 ?_
  refine lv_if_eq (x := 0) (tgt := 36) O.x O.b dJ0_init_2_25 (by decide) (fun _ => ?_) (fun q => absurd rfl q)
  refine lv_aload_n O.x O.b dJ0_init_2_36 rfl l0 ?_
  refine lv_null O.x O.b dJ0_init_2_37 ?_
  refine va_putX O (k := 1) rfl fJ0_17 (Or.inl rfl) hq0 P2 D2 S2 (by rw [List.length_set, List.length_set]; omega) dJ0_init_2_38 (fun H3 locs3 P3 D3 S3 => ?_)
  refine lv_aload_n O.x O.b dJ0_init_2_41 rfl l0 ?_
  refine lv_aload_nN O.x O.b dJ0_init_2_42 rfl l1 ?_
  refine va_putX O (k := 3) rfl fJ0_31 (Or.inl rfl) hq0 P3 D3 S3 (by rw [List.length_set, List.length_set, List.length_set]; omega) dJ0_init_2_43 (fun H4 locs4 P4 D4 S4 => ?_)
  refine lv_aload_n O.x O.b dJ0_init_2_46 rfl l0 ?_
  refine lv_aload_nN O.x O.b dJ0_init_2_47 rfl l2 ?_
  refine va_putX O (k := 0) rfl fJ0_7 (Or.inl rfl) hq0 P4 D4 S4 (by rw [List.length_set, List.length_set, List.length_set, List.length_set]; omega) dJ0_init_2_48 (fun H5 locs5 P5 D5 S5 => ?_)
  refine lv_iload_n O.x O.b dJ0_init_2_51 rfl l3 ?_
  refine lv_if_ne (x := 0) (tgt := 60) O.x O.b dJ0_init_2_52 (by decide) (fun q => absurd rfl q) (fun _ => ?_)
  refine lv_aload_n O.x O.b dJ0_init_2_55 rfl l0 ?_
  refine lv_null O.x O.b dJ0_init_2_56 ?_
  refine va_putX O (k := 2) rfl fJ0_24 (Or.inl rfl) hq0 P5 D5 S5 (by rw [List.length_set, List.length_set, List.length_set, List.length_set, List.length_set]; omega) dJ0_init_2_57 (fun H6 locs6 P6 D6 S6 => ?_)
  rw [th4_l] at P6 D6
  have en : ((((fs.set 1 Value.null).set 3 .null).set 0 .null).set 2 .null) = (List.range (tt_nf 1)).map fun (j : Nat) => te_v ad (tt_t 1 j) (tm_v (th4 μ x) x j) := by
    rw [← hfs]
    have o : ∀ (ν : tm_M) (k : Nat), k < 4 → ((List.range (tt_nf 1)).map fun (j : Nat) => te_v ad (tt_t 1 j) (tm_v ν x j)).set k .null = (List.range (tt_nf 1)).map fun (j : Nat) => te_v ad (tt_t 1 j) (tm_v (tm_w ν x k 0) x j) := by
      intro ν k h4
      have : (Value.null) = te_v ad (tt_t 1 k) 0 := by
        rcases (show k = 0 ∨ k = 1 ∨ k = 2 ∨ k = 3 by omega) with rfl | rfl | rfl | rfl <;> rfl
      rw [this]
      exact te_oset (by show k < 8; omega)
    rw [o _ 1 (by decide), o _ 3 (by decide), o _ 0 (by decide), o _ 2 (by decide)]
    rfl
  have ew : (te_w ad ca μ).set (x - 1).toNat (ad x, .inr (1, ((((fs.set 1 Value.null).set 3 .null).set 0 .null).set 2 .null))) = te_w ad ca (th4 μ x) := by
    rw [en, ← te_eo (ad := ad) (ca := ca) (μ := th4 μ x) hk (by decide)]
    exact te_w_set h1 kx rfl (fun b hb => by
      unfold th4
      rw [te_wo b hb, te_wo b hb, te_wo b hb, te_wo b hb])
  rw [ew] at P6 D6
  have t0 : ∀ k, k < 4 → tr_ok (tm_z μ) (tt_t 1 k) 0 := by
    intro k h4
    rcases (show k = 0 ∨ k = 1 ∨ k = 2 ∨ k = 3 by omega) with rfl | rfl | rfl | rfl <;> exact ⟨by decide, by have := hR.1.1; omega⟩
  have wf : tw_f (th4 μ x) := by
    unfold th4
    refine tw_wr (tw_wr (tw_wr (tw_wr hR.1 ?_) ?_) ?_) ?_
    · rw [hk]; exact t0 1 (by decide)
    · show tr_ok (tm_z μ) (tt_t (tm_k μ x) 3) 0; rw [hk]; exact t0 3 (by decide)
    · show tr_ok (tm_z μ) (tt_t (tm_k μ x) 0) 0; rw [hk]; exact t0 0 (by decide)
    · show tr_ok (tm_z μ) (tt_t (tm_k μ x) 2) 0; rw [hk]; exact t0 2 (by decide)
  exact h p l e R s m args below meth c D A sp ad0 z0 O ad ca H6 locs6 ls hg ⟨wf, P6, D6, hR.2.2.2⟩ S6 hL hT hl
theorem zJ0_init (h1 : 1 ≤ x) (hk : tm_k μ x = 1) : tC mJ0_init_2 d 0 0 [(2, x), (2, 0), (2, 0), (0, 0), (0, 0)] μ (q_m (th4 (tm_w μ x 0 x) x)) := by
  refine tC_of rfl (Nat.le_of_ble_eq_true rfl) ?_
  refine g_aload_n (q := 0) dJ0_init_2_0 rfl rfl ?_
  refine g_objInit dJ0_init_2_1 q177 q148 q149 h1 (Nat.le_of_ble_eq_true rfl) ?_
  refine g_aload_n (q := 0) dJ0_init_2_4 rfl rfl ?_
  refine g_aload_n (q := 0) dJ0_init_2_5 rfl rfl ?_
  refine g_put dJ0_init_2_6 fJ0_7 rfl h1 hk (fun e => absurd e (by decide)) ?_
  refine g_thr4 h1 hk ?_
  exact g_vret dJ0_init_2_60 rfl (Nat.le_refl _) (Nat.le_refl _) ⟨rfl, rfl⟩
end TH4c
