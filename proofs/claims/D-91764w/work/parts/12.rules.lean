/-! RULES, one an instruction: what holds behind it gives what holds ahead of it -/
theorem ts_c {P : Nat × Int → Prop} {x : Nat × Int} {S : tSt} (h1 : P x) (h : ∀ q ∈ S, P q) : ∀ q ∈ x :: S, P q := List.forall_mem_cons.mpr ⟨h1, h⟩
theorem ts_h {P : Nat × Int → Prop} {x : Nat × Int} {S : tSt} (h : ∀ q ∈ x :: S, P q) : P x := h x List.mem_cons_self
theorem ts_t {P : Nat × Int → Prop} {x : Nat × Int} {S : tSt} (h : ∀ q ∈ x :: S, P q) : ∀ q ∈ S, P q := fun q hq => h q (List.mem_cons_of_mem _ hq)
theorem tl_c {P : Nat × Nat × Int → Prop} {x : Nat × Nat × Int} {S : tLs} (h1 : P x) (h : ∀ q ∈ S, P q) : ∀ q ∈ x :: S, P q := List.forall_mem_cons.mpr ⟨h1, h⟩
theorem tr_k {z : Int} {τ : Nat} {x : Int} (h : Nat.blt τ 3 = true) (hx : tr_ok z τ x) : tr_s z τ x := ⟨Or.inl (by simpa using h), hx⟩
theorem tr_i {z a : Int} (h : tr_s z 0 a) : -2147483648 ≤ a ∧ a ≤ 2147483647 := h.2
theorem tr_l {z a : Int} (h : tr_s z 1 a) : -9223372036854775808 ≤ a ∧ a ≤ 9223372036854775807 := h.2
theorem tr_r {z a : Int} (h : tr_s z 2 a) : 0 ≤ a ∧ a < z := h.2
theorem tr_it {z a : Int} (h : tr_s z 0 a) : (Int32.ofInt a).toInt = a := i32_t (tr_i h).1 (tr_i h).2
theorem tr_lt {z a : Int} (h : tr_s z 1 a) : (Int64.ofInt a).toInt = a := i64_t (tr_l h).1 (tr_l h).2
theorem c_lt {z a b : Int} (ha : tr_s z 0 a) (hb : tr_s z 0 b) : Int32.ofInt a < Int32.ofInt b ↔ a < b := by rw [Int32.lt_iff_toInt_lt, tr_it ha, tr_it hb]
theorem c_le {z a b : Int} (ha : tr_s z 0 a) (hb : tr_s z 0 b) : Int32.ofInt a ≤ Int32.ofInt b ↔ a ≤ b := by rw [Int32.le_iff_toInt_le, tr_it ha, tr_it hb]
theorem c_eq {z a b : Int} (ha : tr_s z 0 a) (hb : tr_s z 0 b) : Int32.ofInt a = Int32.ofInt b ↔ a = b := by rw [← Int32.toInt_inj, tr_it ha, tr_it hb]
theorem c_0 : (0 : Int32) = Int32.ofInt 0 := rfl
theorem c_k0 (z : Int) : tr_s z 0 0 := (tr_k rfl (by show -2147483648 ≤ (0 : Int) ∧ (0 : Int) ≤ 2147483647; omega))
theorem d_lt {z a b : Int} (ha : tr_s z 1 a) (hb : tr_s z 1 b) : Int64.ofInt a < Int64.ofInt b ↔ a < b := by rw [Int64.lt_iff_toInt_lt, tr_lt ha, tr_lt hb]
theorem d_eq {z a b : Int} (ha : tr_s z 1 a) (hb : tr_s z 1 b) : Int64.ofInt a = Int64.ofInt b ↔ a = b := by rw [← Int64.toInt_inj, tr_lt ha, tr_lt hb]
/-- fewer of the locals, by their places -/
def tl_pk (L : tLs) (ks : List Nat) : tLs := ks.filterMap (fun k => L[k]?)
theorem tl_pm {L : tLs} {ks : List Nat} {q : Nat × Nat × Int} (h : q ∈ tl_pk L ks) : q ∈ L := by
  obtain ⟨k, -, hk⟩ := List.mem_filterMap.mp h
  exact List.mem_of_getElem? hk
/-- what a store leaves -/
def tl_k1 (i : Nat) (q : Nat × Nat × Int) : Bool := !(q.1 == i) && !(q.1 + 1 == i && q.2.1 == 1)
def tl_k2 (i : Nat) (q : Nat × Nat × Int) : Bool := !(q.1 == i) && (!(q.1 == i + 1) && !(q.1 + 1 == i && q.2.1 == 1))
section RULES
variable {M : tM} {d mc ms : Nat} {F : tF} {pc : Nat} {L : tLs} {S : tSt} {μ : tm_M} {nc ns : Nat}
theorem g_iconst {n : Int} (hd : decode M.2.1 pc = .ok (.iconst n, 1)) (hn : -32768 ≤ n ∧ n ≤ 32767) (h : tH M d mc ms F (pc + 1) L ((0, n) :: S) μ nc ns) : tH M d mc ms F pc L S μ nc ns := by
  intro p l e R s m args below meth c D A sp ad0 z0 O ad ca H locs ls hg hR hS hL hT hl
  exact lv_iconst (v := Int32.ofInt n) O.x O.b hd rfl (h p l e R s m args below meth c D A sp ad0 z0 O ad ca H locs ls hg hR hS hL (ts_c (tr_k rfl (by have := hn.1; have := hn.2; show -2147483648 ≤ n ∧ n ≤ 2147483647; omega)) hT) hl)
theorem g_bipush {n : Int} (hd : decode M.2.1 pc = .ok (.bipush n, 2)) (hn : -32768 ≤ n ∧ n ≤ 32767 ∧ (Int8.ofInt n).toInt32 = Int32.ofInt n) (h : tH M d mc ms F (pc + 2) L ((0, n) :: S) μ nc ns) : tH M d mc ms F pc L S μ nc ns := by
  intro p l e R s m args below meth c D A sp ad0 z0 O ad ca H locs ls hg hR hS hL hT hl
  exact lv_bipush (v := Int32.ofInt n) O.x O.b hd hn.2.2 (h p l e R s m args below meth c D A sp ad0 z0 O ad ca H locs ls hg hR hS hL (ts_c (tr_k rfl (by have := hn.1; have := hn.2; show -2147483648 ≤ n ∧ n ≤ 2147483647; omega)) hT) hl)
theorem g_sipush {n : Int} (hd : decode M.2.1 pc = .ok (.sipush n, 3)) (hn : -32768 ≤ n ∧ n ≤ 32767 ∧ (Int16.ofInt n).toInt32 = Int32.ofInt n) (h : tH M d mc ms F (pc + 3) L ((0, n) :: S) μ nc ns) : tH M d mc ms F pc L S μ nc ns := by
  intro p l e R s m args below meth c D A sp ad0 z0 O ad ca H locs ls hg hR hS hL hT hl
  exact lv_sipush (v := Int32.ofInt n) O.x O.b hd hn.2.2 (h p l e R s m args below meth c D A sp ad0 z0 O ad ca H locs ls hg hR hS hL (ts_c (tr_k rfl (by have := hn.1; have := hn.2; show -2147483648 ≤ n ∧ n ≤ 2147483647; omega)) hT) hl)
theorem g_lconst {n : Fin 2} (hd : decode M.2.1 pc = .ok (.lconst n, 1)) (h : tH M d mc ms F (pc + 1) L ((1, ((n : Nat) : Int)) :: S) μ nc ns) : tH M d mc ms F pc L S μ nc ns := by
  intro p l e R s m args below meth c D A sp ad0 z0 O ad ca H locs ls hg hR hS hL hT hl
  refine lv_lconst (v := Int64.ofInt ((n : Nat) : Int)) O.x O.b hd ?_ (h p l e R s m args below meth c D A sp ad0 z0 O ad ca H locs ls hg hR hS hL (ts_c (tr_k rfl (by have := n.isLt; show -9223372036854775808 ≤ ((n : Nat) : Int) ∧ ((n : Nat) : Int) ≤ 9223372036854775807; omega)) hT) hl)
  rcases n with ⟨k, hk⟩
  rcases (show k = 0 ∨ k = 1 by omega) with rfl | rfl <;> rfl
theorem g_anull (hd : decode M.2.1 pc = .ok (.aconst_null, 1)) (h : tH M d mc ms F (pc + 1) L ((2, 0) :: S) μ nc ns) : tH M d mc ms F pc L S μ nc ns := by
  intro p l e R s m args below meth c D A sp ad0 z0 O ad ca H locs ls hg hR hS hL hT hl
  exact lv_null O.x O.b hd (h p l e R s m args below meth c D A sp ad0 z0 O ad ca H locs ls hg hR hS hL (ts_c (tr_k rfl (by have := hg.2.2; show 0 ≤ (0 : Int) ∧ (0 : Int) < tm_z μ; omega)) hT) hl)
theorem g_ldc {idx : Nat} {v : Int} (hv : -2147483648 ≤ v ∧ v ≤ 2147483647) (hq : Cond.constant M.1.cls idx (Int32.ofInt v) ∈ lw_all) (hd : decode M.2.1 pc = .ok (.ldc idx, 2)) (h : tH M d mc ms F (pc + 2) L ((0, v) :: S) μ nc ns) : tH M d mc ms F pc L S μ nc ns := by
  intro p l e R s m args below meth c D A sp ad0 z0 O ad ca H locs ls hg hR hS hL hT hl
  exact lv_ldc O.x O.b O.own (O.ts _ hq) hd (h p l e R s m args below meth c D A sp ad0 z0 O ad ca H locs ls hg hR hS hL (ts_c (tr_k rfl hv) hT) hl)
theorem g_ldcw {idx : Nat} {v : Int} (hv : -2147483648 ≤ v ∧ v ≤ 2147483647) (hq : Cond.constant M.1.cls idx (Int32.ofInt v) ∈ lw_all) (hd : decode M.2.1 pc = .ok (.ldc_w idx, 3)) (h : tH M d mc ms F (pc + 3) L ((0, v) :: S) μ nc ns) : tH M d mc ms F pc L S μ nc ns := by
  intro p l e R s m args below meth c D A sp ad0 z0 O ad ca H locs ls hg hR hS hL hT hl
  exact lv_ldcw O.x O.b O.own (O.ts _ hq) hd (h p l e R s m args below meth c D A sp ad0 z0 O ad ca H locs ls hg hR hS hL (ts_c (tr_k rfl hv) hT) hl)
theorem g_ldc2 {idx : Nat} {v : Int} (hv : -9223372036854775808 ≤ v ∧ v ≤ 9223372036854775807) (hq : Cond.constantLong M.1.cls idx (Int64.ofInt v) ∈ lw_all) (hd : decode M.2.1 pc = .ok (.ldc2_w idx, 3)) (h : tH M d mc ms F (pc + 3) L ((1, v) :: S) μ nc ns) : tH M d mc ms F pc L S μ nc ns := by
  intro p l e R s m args below meth c D A sp ad0 z0 O ad ca H locs ls hg hR hS hL hT hl
  exact lv_ldc2 O.x O.b O.own (O.ts _ hq) hd (h p l e R s m args below meth c D A sp ad0 z0 O ad ca H locs ls hg hR hS hL (ts_c (tr_k rfl hv) hT) hl)
theorem g_iload_n {k : Fin 4} {i q : Nat} {x : Int} (hd : decode M.2.1 pc = .ok (.iload_n k, 1)) (hi : (k : Nat) = i) (hk : L[q]? = some (i, 0, x)) (h : tH M d mc ms F (pc + 1) L ((0, x) :: S) μ nc ns) : tH M d mc ms F pc L S μ nc ns := by
  intro p l e R s m args below meth c D A sp ad0 z0 O ad ca H locs ls hg hR hS hL hT hl
  exact lv_iload_n O.x O.b hd hi (lv_at hl q (by rw [List.getElem?_map, hk]; rfl)) (h p l e R s m args below meth c D A sp ad0 z0 O ad ca H locs ls hg hR hS hL (ts_c (hL _ (List.mem_of_getElem? hk)) hT) hl)
theorem g_iload {i q : Nat} {x : Int} (hd : decode M.2.1 pc = .ok (.iload i, 2)) (hk : L[q]? = some (i, 0, x)) (h : tH M d mc ms F (pc + 2) L ((0, x) :: S) μ nc ns) : tH M d mc ms F pc L S μ nc ns := by
  intro p l e R s m args below meth c D A sp ad0 z0 O ad ca H locs ls hg hR hS hL hT hl
  exact lv_iload O.x O.b hd (lv_at hl q (by rw [List.getElem?_map, hk]; rfl)) (h p l e R s m args below meth c D A sp ad0 z0 O ad ca H locs ls hg hR hS hL (ts_c (hL _ (List.mem_of_getElem? hk)) hT) hl)
theorem g_lload_n {k : Fin 4} {i q : Nat} {x : Int} (hd : decode M.2.1 pc = .ok (.lload_n k, 1)) (hi : (k : Nat) = i) (hk : L[q]? = some (i, 1, x)) (h : tH M d mc ms F (pc + 1) L ((1, x) :: S) μ nc ns) : tH M d mc ms F pc L S μ nc ns := by
  intro p l e R s m args below meth c D A sp ad0 z0 O ad ca H locs ls hg hR hS hL hT hl
  exact lv_lload_n O.x O.b hd hi (lv_at hl q (by rw [List.getElem?_map, hk]; rfl)) (h p l e R s m args below meth c D A sp ad0 z0 O ad ca H locs ls hg hR hS hL (ts_c (hL _ (List.mem_of_getElem? hk)) hT) hl)
theorem g_lload {i q : Nat} {x : Int} (hd : decode M.2.1 pc = .ok (.lload i, 2)) (hk : L[q]? = some (i, 1, x)) (h : tH M d mc ms F (pc + 2) L ((1, x) :: S) μ nc ns) : tH M d mc ms F pc L S μ nc ns := by
  intro p l e R s m args below meth c D A sp ad0 z0 O ad ca H locs ls hg hR hS hL hT hl
  exact lv_lload O.x O.b hd (lv_at hl q (by rw [List.getElem?_map, hk]; rfl)) (h p l e R s m args below meth c D A sp ad0 z0 O ad ca H locs ls hg hR hS hL (ts_c (hL _ (List.mem_of_getElem? hk)) hT) hl)
theorem g_aload_n {k : Fin 4} {i q : Nat} {x : Int} (hd : decode M.2.1 pc = .ok (.aload_n k, 1)) (hi : (k : Nat) = i) (hk : L[q]? = some (i, 2, x)) (h : tH M d mc ms F (pc + 1) L ((2, x) :: S) μ nc ns) : tH M d mc ms F pc L S μ nc ns := by
  intro p l e R s m args below meth c D A sp ad0 z0 O ad ca H locs ls hg hR hS hL hT hl
  have k1 := h p l e R s m args below meth c D A sp ad0 z0 O ad ca H locs ls hg hR hS hL (ts_c (hL _ (List.mem_of_getElem? hk)) hT) hl
  have k2 := lv_at hl q (i := i) (v := te_v ad 2 x) (by rw [List.getElem?_map, hk]; rfl)
  by_cases e0 : x = 0
  · have e1 : te_v ad 2 x = .null := by subst e0; rfl
    rw [e1] at k2
    refine lv_aload_nN O.x O.b hd hi k2 ?_
    rw [← e1]
    exact k1
  · have e1 : te_v ad 2 x = .ref (ad x) := by show va_rf (te_r ad x) = _; unfold te_r; rw [if_neg e0]; rfl
    rw [e1] at k2
    refine lv_aload_n O.x O.b hd hi k2 ?_
    rw [← e1]
    exact k1
theorem g_aload {i q : Nat} {x : Int} (hd : decode M.2.1 pc = .ok (.aload i, 2)) (hk : L[q]? = some (i, 2, x)) (h : tH M d mc ms F (pc + 2) L ((2, x) :: S) μ nc ns) : tH M d mc ms F pc L S μ nc ns := by
  intro p l e R s m args below meth c D A sp ad0 z0 O ad ca H locs ls hg hR hS hL hT hl
  have k1 := h p l e R s m args below meth c D A sp ad0 z0 O ad ca H locs ls hg hR hS hL (ts_c (hL _ (List.mem_of_getElem? hk)) hT) hl
  have k2 := lv_at hl q (i := i) (v := te_v ad 2 x) (by rw [List.getElem?_map, hk]; rfl)
  by_cases e0 : x = 0
  · have e1 : te_v ad 2 x = .null := by subst e0; rfl
    rw [e1] at k2
    refine lv_aloadN O.x O.b hd k2 ?_
    rw [← e1]
    exact k1
  · have e1 : te_v ad 2 x = .ref (ad x) := by show va_rf (te_r ad x) = _; unfold te_r; rw [if_neg e0]; rfl
    rw [e1] at k2
    refine lv_aload O.x O.b hd k2 ?_
    rw [← e1]
    exact k1
theorem te_cat (ad : Int → Nat) (τ : Nat) (x : Int) : ((te_v ad τ x).category == 2) = (τ == 1) := by
  unfold te_v
  split
  · rfl
  · unfold va_rf
    split <;> rfl
  · rfl
  · rename_i h1 _ _
    have : (τ == 1) = false := by simpa using h1
    rw [this]; rfl
theorem tl_mp {ad : Int → Nat} {L : tLs} {f : Nat × Value → Bool} {g : Nat × Nat × Int → Bool} (h : ∀ q ∈ L, f (q.1, te_v ad q.2.1 q.2.2) = g q) : (L.map fun q => (q.1, te_v ad q.2.1 q.2.2)).filter f = (L.filter g).map fun q => (q.1, te_v ad q.2.1 q.2.2) := by
  rw [List.filter_map]
  congr 1
  exact List.filter_congr h
theorem tl_has {ad : Int → Nat} {L L' : tLs} {ls : Array Slot} {n : Nat} {ks : List Nat} (h : lv_has ls n (L.map fun q => (q.1, te_v ad q.2.1 q.2.2))) (hs : tl_pk L ks = L') : lv_has ls n (L'.map fun q => (q.1, te_v ad q.2.1 q.2.2)) := by
  refine ⟨h.1, h.2.1, fun q hq => ?_⟩
  obtain ⟨r, hr, rfl⟩ := List.mem_map.mp hq
  rw [← hs] at hr
  exact h.2.2 _ (List.mem_map.mpr ⟨r, tl_pm hr, rfl⟩)
theorem tl_all {z : Int} {L L' : tLs} {ks : List Nat} {i τ : Nat} {x : Int} {g : Nat × Nat × Int → Bool} (hx : tr_s z τ x) (hL : ∀ q ∈ L, tr_s z q.2.1 q.2.2) (hs : tl_pk ((i, τ, x) :: L.filter g) ks = L') : ∀ q ∈ L', tr_s z q.2.1 q.2.2 := by
  intro q hq
  rw [← hs] at hq
  rcases List.mem_cons.mp (tl_pm hq) with h | h
  · rw [h]; exact hx
  · exact hL q (List.mem_filter.mp h).1
/-- fewer locals are kept in mind -/
theorem g_less {L' : tLs} (ks : List Nat) (hs : tl_pk L ks = L') (h : tH M d mc ms F pc L' S μ nc ns) : tH M d mc ms F pc L S μ nc ns := by
  intro p l e R s m args below meth c D A sp ad0 z0 O ad ca H locs ls hg hR hS hL hT hl
  exact h p l e R s m args below meth c D A sp ad0 z0 O ad ca H locs ls hg hR hS (fun q hq => hL q (tl_pm (by rw [hs]; exact hq))) hT (tl_has hl hs)
theorem g_istore_n {k : Fin 4} {i : Nat} {x : Int} {L' : tLs} (hd : decode M.2.1 pc = .ok (.istore_n k, 1)) (hi : (k : Nat) = i) (hn : i < M.2.2.1) (ks : List Nat) (hs : tl_pk ((i, 0, x) :: L.filter (tl_k1 i)) ks = L') (h : tH M d mc ms F (pc + 1) L' S μ nc ns) : tH M d mc ms F pc L ((0, x) :: S) μ nc ns := by
  intro p l e R s m args below meth c D A sp ad0 z0 O ad ca H locs ls hg hR hS hL hT hl
  have em : (L.map fun q => (q.1, te_v ad q.2.1 q.2.2)).filter _ = _ := tl_mp (ad := ad) (L := L) (f := fun q => !(q.1 == i) && !(q.1 + 1 == i && q.2.category == 2)) (g := tl_k1 i) (fun q _ => by simp only [te_cat, tl_k1])
  refine lv_istore_n O.x O.b hd hi hl hn rfl ?_
  intro ls' hl'
  have hl2 : lv_has ls' M.2.2.1 (((i, 0, x) :: L.filter (tl_k1 i)).map fun q => (q.1, te_v ad q.2.1 q.2.2)) := by
    rw [em] at hl'
    exact hl'
  exact h p l e R s m args below meth c D A sp ad0 z0 O ad ca H locs ls' hg hR hS (tl_all (ts_h hT) hL hs) (ts_t hT) (tl_has hl2 hs)
theorem g_istore {i : Nat} {x : Int} {L' : tLs} (hd : decode M.2.1 pc = .ok (.istore i, 2)) (hn : i < M.2.2.1) (ks : List Nat) (hs : tl_pk ((i, 0, x) :: L.filter (tl_k1 i)) ks = L') (h : tH M d mc ms F (pc + 2) L' S μ nc ns) : tH M d mc ms F pc L ((0, x) :: S) μ nc ns := by
  intro p l e R s m args below meth c D A sp ad0 z0 O ad ca H locs ls hg hR hS hL hT hl
  have em : (L.map fun q => (q.1, te_v ad q.2.1 q.2.2)).filter _ = _ := tl_mp (ad := ad) (L := L) (f := fun q => !(q.1 == i) && !(q.1 + 1 == i && q.2.category == 2)) (g := tl_k1 i) (fun q _ => by simp only [te_cat, tl_k1])
  refine lv_istore O.x O.b hd hl hn rfl ?_
  intro ls' hl'
  have hl2 : lv_has ls' M.2.2.1 (((i, 0, x) :: L.filter (tl_k1 i)).map fun q => (q.1, te_v ad q.2.1 q.2.2)) := by
    rw [em] at hl'
    exact hl'
  exact h p l e R s m args below meth c D A sp ad0 z0 O ad ca H locs ls' hg hR hS (tl_all (ts_h hT) hL hs) (ts_t hT) (tl_has hl2 hs)
theorem g_lstore_n {k : Fin 4} {i : Nat} {x : Int} {L' : tLs} (hd : decode M.2.1 pc = .ok (.lstore_n k, 1)) (hi : (k : Nat) = i) (hn : i + 1 < M.2.2.1) (ks : List Nat) (hs : tl_pk ((i, 1, x) :: L.filter (tl_k2 i)) ks = L') (h : tH M d mc ms F (pc + 1) L' S μ nc ns) : tH M d mc ms F pc L ((1, x) :: S) μ nc ns := by
  intro p l e R s m args below meth c D A sp ad0 z0 O ad ca H locs ls hg hR hS hL hT hl
  have em : (L.map fun q => (q.1, te_v ad q.2.1 q.2.2)).filter _ = _ := tl_mp (ad := ad) (L := L) (f := fun q => !(q.1 == i) && (!(q.1 == i + 1) && !(q.1 + 1 == i && q.2.category == 2))) (g := tl_k2 i) (fun q _ => by simp only [te_cat, tl_k2])
  refine lv_lstore_n O.x O.b hd hi hl hn rfl ?_
  intro ls' hl'
  have hl2 : lv_has ls' M.2.2.1 (((i, 1, x) :: L.filter (tl_k2 i)).map fun q => (q.1, te_v ad q.2.1 q.2.2)) := by
    rw [em] at hl'
    exact hl'
  exact h p l e R s m args below meth c D A sp ad0 z0 O ad ca H locs ls' hg hR hS (tl_all (ts_h hT) hL hs) (ts_t hT) (tl_has hl2 hs)
theorem g_lstore {i : Nat} {x : Int} {L' : tLs} (hd : decode M.2.1 pc = .ok (.lstore i, 2)) (hn : i + 1 < M.2.2.1) (ks : List Nat) (hs : tl_pk ((i, 1, x) :: L.filter (tl_k2 i)) ks = L') (h : tH M d mc ms F (pc + 2) L' S μ nc ns) : tH M d mc ms F pc L ((1, x) :: S) μ nc ns := by
  intro p l e R s m args below meth c D A sp ad0 z0 O ad ca H locs ls hg hR hS hL hT hl
  have em : (L.map fun q => (q.1, te_v ad q.2.1 q.2.2)).filter _ = _ := tl_mp (ad := ad) (L := L) (f := fun q => !(q.1 == i) && (!(q.1 == i + 1) && !(q.1 + 1 == i && q.2.category == 2))) (g := tl_k2 i) (fun q _ => by simp only [te_cat, tl_k2])
  refine lv_lstore O.x O.b hd hl hn rfl ?_
  intro ls' hl'
  have hl2 : lv_has ls' M.2.2.1 (((i, 1, x) :: L.filter (tl_k2 i)).map fun q => (q.1, te_v ad q.2.1 q.2.2)) := by
    rw [em] at hl'
    exact hl'
  exact h p l e R s m args below meth c D A sp ad0 z0 O ad ca H locs ls' hg hR hS (tl_all (ts_h hT) hL hs) (ts_t hT) (tl_has hl2 hs)
theorem g_astore_n {k : Fin 4} {i : Nat} {x : Int} {L' : tLs} (hd : decode M.2.1 pc = .ok (.astore_n k, 1)) (hi : (k : Nat) = i) (hn : i < M.2.2.1) (ks : List Nat) (hs : tl_pk ((i, 2, x) :: L.filter (tl_k1 i)) ks = L') (h : tH M d mc ms F (pc + 1) L' S μ nc ns) : tH M d mc ms F pc L ((2, x) :: S) μ nc ns := by
  intro p l e R s m args below meth c D A sp ad0 z0 O ad ca H locs ls hg hR hS hL hT hl
  have em : (L.map fun q => (q.1, te_v ad q.2.1 q.2.2)).filter _ = _ := tl_mp (ad := ad) (L := L) (f := fun q => !(q.1 == i) && !(q.1 + 1 == i && q.2.category == 2)) (g := tl_k1 i) (fun q _ => by simp only [te_cat, tl_k1])
  by_cases e0 : x = 0
  · subst e0
    refine lv_astore_nN O.x O.b hd hi hl hn rfl ?_
    intro ls' hl'
    have hl2 : lv_has ls' M.2.2.1 (((i, 2, 0) :: L.filter (tl_k1 i)).map fun q => (q.1, te_v ad q.2.1 q.2.2)) := by
      rw [em] at hl'
      exact hl'
    exact h p l e R s m args below meth c D A sp ad0 z0 O ad ca H locs ls' hg hR hS (tl_all (ts_h hT) hL hs) (ts_t hT) (tl_has hl2 hs)
  · have e1 : te_v ad 2 x = .ref (ad x) := by show va_rf (te_r ad x) = _; unfold te_r; rw [if_neg e0]; rfl
    refine W.eq (g2 := F0 m pc ls (.ref (ad x) :: S.map fun q => te_v ad q.1 q.2)) (by rw [← e1]; rfl) ?_
    refine lv_astore_n O.x O.b hd hi hl hn rfl ?_
    intro ls' hl'
    have hl2 : lv_has ls' M.2.2.1 (((i, 2, x) :: L.filter (tl_k1 i)).map fun q => (q.1, te_v ad q.2.1 q.2.2)) := by
      rw [em, ← e1] at hl'
      exact hl'
    exact h p l e R s m args below meth c D A sp ad0 z0 O ad ca H locs ls' hg hR hS (tl_all (ts_h hT) hL hs) (ts_t hT) (tl_has hl2 hs)
theorem g_astore {i : Nat} {x : Int} {L' : tLs} (hd : decode M.2.1 pc = .ok (.astore i, 2)) (hn : i < M.2.2.1) (ks : List Nat) (hs : tl_pk ((i, 2, x) :: L.filter (tl_k1 i)) ks = L') (h : tH M d mc ms F (pc + 2) L' S μ nc ns) : tH M d mc ms F pc L ((2, x) :: S) μ nc ns := by
  intro p l e R s m args below meth c D A sp ad0 z0 O ad ca H locs ls hg hR hS hL hT hl
  have em : (L.map fun q => (q.1, te_v ad q.2.1 q.2.2)).filter _ = _ := tl_mp (ad := ad) (L := L) (f := fun q => !(q.1 == i) && !(q.1 + 1 == i && q.2.category == 2)) (g := tl_k1 i) (fun q _ => by simp only [te_cat, tl_k1])
  by_cases e0 : x = 0
  · subst e0
    refine lv_astoreN O.x O.b hd hl hn rfl ?_
    intro ls' hl'
    have hl2 : lv_has ls' M.2.2.1 (((i, 2, 0) :: L.filter (tl_k1 i)).map fun q => (q.1, te_v ad q.2.1 q.2.2)) := by
      rw [em] at hl'
      exact hl'
    exact h p l e R s m args below meth c D A sp ad0 z0 O ad ca H locs ls' hg hR hS (tl_all (ts_h hT) hL hs) (ts_t hT) (tl_has hl2 hs)
  · have e1 : te_v ad 2 x = .ref (ad x) := by show va_rf (te_r ad x) = _; unfold te_r; rw [if_neg e0]; rfl
    refine W.eq (g2 := F0 m pc ls (.ref (ad x) :: S.map fun q => te_v ad q.1 q.2)) (by rw [← e1]; rfl) ?_
    refine lv_astore O.x O.b hd hl hn rfl ?_
    intro ls' hl'
    have hl2 : lv_has ls' M.2.2.1 (((i, 2, x) :: L.filter (tl_k1 i)).map fun q => (q.1, te_v ad q.2.1 q.2.2)) := by
      rw [em, ← e1] at hl'
      exact hl'
    exact h p l e R s m args below meth c D A sp ad0 z0 O ad ca H locs ls' hg hR hS (tl_all (ts_h hT) hL hs) (ts_t hT) (tl_has hl2 hs)
theorem g_iinc {i q : Nat} {n x : Int} {L' : tLs} (hd : decode M.2.1 pc = .ok (.iinc i n, 3)) (hn : i < M.2.2.1) (hk : L[q]? = some (i, 0, x)) (ks : List Nat) (hs : tl_pk ((i, 0, w32 (x + n)) :: L.filter (tl_k1 i)) ks = L') (h : tH M d mc ms F (pc + 3) L' S μ nc ns) : tH M d mc ms F pc L S μ nc ns := by
  intro p l e R s m args below meth c D A sp ad0 z0 O ad ca H locs ls hg hR hS hL hT hl
  have em : (L.map fun q => (q.1, te_v ad q.2.1 q.2.2)).filter _ = _ := tl_mp (ad := ad) (L := L) (f := fun q => !(q.1 == i) && !(q.1 + 1 == i && q.2.category == 2)) (g := tl_k1 i) (fun q _ => by simp only [te_cat, tl_k1])
  refine lv_iinc (k := q) (v := Int32.ofInt (w32 (x + n))) (x := Int32.ofInt x) O.x O.b hd hl (by rw [List.getElem?_map, hk]; rfl) (by rw [i32_w, Int32.ofInt_add]) hn rfl ?_
  intro ls' hl'
  have hl2 : lv_has ls' M.2.2.1 (((i, 0, w32 (x + n)) :: L.filter (tl_k1 i)).map fun q => (q.1, te_v ad q.2.1 q.2.2)) := by
    rw [em] at hl'
    exact hl'
  exact h p l e R s m args below meth c D A sp ad0 z0 O ad ca H locs ls' hg hR hS (tl_all (w32_ok _ _) hL hs) (hT) (tl_has hl2 hs)
theorem g_iadd {a b : Int} (hd : decode M.2.1 pc = .ok (.iadd, 1)) (h : tH M d mc ms F (pc + 1) L ((0, w32 (a + b)) :: S) μ nc ns) : tH M d mc ms F pc L ((0, b) :: (0, a) :: S) μ nc ns := by
  intro p l e R s m args below meth c D A sp ad0 z0 O ad ca H locs ls hg hR hS hL hT hl
  refine lv_iadd (x := Int32.ofInt a) (y := Int32.ofInt b) O.x O.b hd ?_
  have k1 := h p l e R s m args below meth c D A sp ad0 z0 O ad ca H locs ls hg hR hS hL (ts_c (w32_ok _ _) (ts_t (ts_t hT))) hl
  have e1 : Int32.ofInt a + Int32.ofInt b = Int32.ofInt (w32 (a + b)) := by rw [i32_w, Int32.ofInt_add]
  rw [e1]
  exact k1
theorem g_ladd {a b : Int} (hd : decode M.2.1 pc = .ok (.ladd, 1)) (h : tH M d mc ms F (pc + 1) L ((1, w64 (a + b)) :: S) μ nc ns) : tH M d mc ms F pc L ((1, b) :: (1, a) :: S) μ nc ns := by
  intro p l e R s m args below meth c D A sp ad0 z0 O ad ca H locs ls hg hR hS hL hT hl
  refine lv_ladd (x := Int64.ofInt a) (y := Int64.ofInt b) O.x O.b hd ?_
  have k1 := h p l e R s m args below meth c D A sp ad0 z0 O ad ca H locs ls hg hR hS hL (ts_c (w64_ok _ _) (ts_t (ts_t hT))) hl
  have e1 : Int64.ofInt a + Int64.ofInt b = Int64.ofInt (w64 (a + b)) := by rw [i64_w, Int64.ofInt_add]
  rw [e1]
  exact k1
theorem g_isub {a b : Int} (hd : decode M.2.1 pc = .ok (.isub, 1)) (h : tH M d mc ms F (pc + 1) L ((0, w32 (a - b)) :: S) μ nc ns) : tH M d mc ms F pc L ((0, b) :: (0, a) :: S) μ nc ns := by
  intro p l e R s m args below meth c D A sp ad0 z0 O ad ca H locs ls hg hR hS hL hT hl
  refine lv_isub (x := Int32.ofInt a) (y := Int32.ofInt b) O.x O.b hd ?_
  have k1 := h p l e R s m args below meth c D A sp ad0 z0 O ad ca H locs ls hg hR hS hL (ts_c (w32_ok _ _) (ts_t (ts_t hT))) hl
  have e1 : Int32.ofInt a - Int32.ofInt b = Int32.ofInt (w32 (a - b)) := by rw [i32_w, Int32.ofInt_sub]
  rw [e1]
  exact k1
theorem g_lsub {a b : Int} (hd : decode M.2.1 pc = .ok (.lsub, 1)) (h : tH M d mc ms F (pc + 1) L ((1, w64 (a - b)) :: S) μ nc ns) : tH M d mc ms F pc L ((1, b) :: (1, a) :: S) μ nc ns := by
  intro p l e R s m args below meth c D A sp ad0 z0 O ad ca H locs ls hg hR hS hL hT hl
  refine lv_lsub (x := Int64.ofInt a) (y := Int64.ofInt b) O.x O.b hd ?_
  have k1 := h p l e R s m args below meth c D A sp ad0 z0 O ad ca H locs ls hg hR hS hL (ts_c (w64_ok _ _) (ts_t (ts_t hT))) hl
  have e1 : Int64.ofInt a - Int64.ofInt b = Int64.ofInt (w64 (a - b)) := by rw [i64_w, Int64.ofInt_sub]
  rw [e1]
  exact k1
theorem g_imul {a b : Int} (hd : decode M.2.1 pc = .ok (.imul, 1)) (h : tH M d mc ms F (pc + 1) L ((0, w32 (a * b)) :: S) μ nc ns) : tH M d mc ms F pc L ((0, b) :: (0, a) :: S) μ nc ns := by
  intro p l e R s m args below meth c D A sp ad0 z0 O ad ca H locs ls hg hR hS hL hT hl
  refine lv_imul (x := Int32.ofInt a) (y := Int32.ofInt b) O.x O.b hd ?_
  have k1 := h p l e R s m args below meth c D A sp ad0 z0 O ad ca H locs ls hg hR hS hL (ts_c (w32_ok _ _) (ts_t (ts_t hT))) hl
  have e1 : Int32.ofInt a * Int32.ofInt b = Int32.ofInt (w32 (a * b)) := by rw [i32_w, Int32.ofInt_mul]
  rw [e1]
  exact k1
theorem g_lmul {a b : Int} (hd : decode M.2.1 pc = .ok (.lmul, 1)) (h : tH M d mc ms F (pc + 1) L ((1, w64 (a * b)) :: S) μ nc ns) : tH M d mc ms F pc L ((1, b) :: (1, a) :: S) μ nc ns := by
  intro p l e R s m args below meth c D A sp ad0 z0 O ad ca H locs ls hg hR hS hL hT hl
  refine lv_lmul (x := Int64.ofInt a) (y := Int64.ofInt b) O.x O.b hd ?_
  have k1 := h p l e R s m args below meth c D A sp ad0 z0 O ad ca H locs ls hg hR hS hL (ts_c (w64_ok _ _) (ts_t (ts_t hT))) hl
  have e1 : Int64.ofInt a * Int64.ofInt b = Int64.ofInt (w64 (a * b)) := by rw [i64_w, Int64.ofInt_mul]
  rw [e1]
  exact k1
theorem g_ineg {a : Int} (hd : decode M.2.1 pc = .ok (.ineg, 1)) (h : tH M d mc ms F (pc + 1) L ((0, w32 (-a)) :: S) μ nc ns) : tH M d mc ms F pc L ((0, a) :: S) μ nc ns := by
  intro p l e R s m args below meth c D A sp ad0 z0 O ad ca H locs ls hg hR hS hL hT hl
  refine lv_ineg (x := Int32.ofInt a) O.x O.b hd ?_
  have k1 := h p l e R s m args below meth c D A sp ad0 z0 O ad ca H locs ls hg hR hS hL (ts_c (w32_ok _ _) (ts_t hT)) hl
  have e1 : -Int32.ofInt a = Int32.ofInt (w32 (-a)) := by rw [i32_w, Int32.ofInt_neg]
  rw [e1]
  exact k1
theorem xi_div {z a b : Int} (ha : tr_s z 0 a) (hb : tr_s z 0 b) : Int32.ofInt a / Int32.ofInt b = Int32.ofInt (w32 (a.tdiv b)) := by
  rw [i32_w, ← Int32.toInt_inj, Int32.toInt_div, tr_it ha, tr_it hb, Int32.toInt_ofInt]
theorem xi_rem {z a b : Int} (ha : tr_s z 0 a) (hb : tr_s z 0 b) : Int32.ofInt a - Int32.ofInt a / Int32.ofInt b * Int32.ofInt b = Int32.ofInt (a.tmod b) := by
  rw [xi_div ha hb, i32_w, ← Int32.ofInt_mul, ← Int32.ofInt_sub]
  congr 1
  have := Int.tmod_add_tdiv_mul a b
  omega
theorem xi_remok {z a b : Int} (ha : tr_s z 0 a) : tr_s z 0 (a.tmod b) := by
  refine ⟨Or.inl (by decide), ?_⟩
  have h1 := tr_i ha
  have h2 : (a.tmod b).natAbs ≤ a.natAbs := by
    rw [Int.natAbs_tmod]
    exact Nat.mod_le _ _
  show -2147483648 ≤ a.tmod b ∧ a.tmod b ≤ 2147483647
  have h3 : 0 ≤ a → 0 ≤ a.tmod b := fun h => Int.tmod_nonneg b h
  have h4 : a ≤ 0 → a.tmod b ≤ 0 := fun h => by have h5 := Int.tmod_nonneg b (show 0 ≤ -a by omega); rw [Int.neg_tmod] at h5; omega
  omega
theorem g_idiv {a b : Int} (hd : decode M.2.1 pc = .ok (.idiv, 1)) (hb : b ≠ 0) (h : tH M d mc ms F (pc + 1) L ((0, w32 (a.tdiv b)) :: S) μ nc ns) : tH M d mc ms F pc L ((0, b) :: (0, a) :: S) μ nc ns := by
  intro p l e R s m args below meth c D A sp ad0 z0 O ad ca H locs ls hg hR hS hL hT hl
  have kb := ts_h hT
  have ka := ts_h (ts_t hT)
  refine lv_idiv (x := Int32.ofInt a) (y := Int32.ofInt b) O.x O.b hd (fun q => hb ?_) ?_
  · have := congrArg Int32.toInt q
    rw [tr_it kb] at this
    simpa using this
  · rw [xi_div ka kb]
    exact h p l e R s m args below meth c D A sp ad0 z0 O ad ca H locs ls hg hR hS hL (ts_c (w32_ok _ _) (ts_t (ts_t hT))) hl
theorem g_irem {a b : Int} (hd : decode M.2.1 pc = .ok (.irem, 1)) (hb : b ≠ 0) (h : tH M d mc ms F (pc + 1) L ((0, a.tmod b) :: S) μ nc ns) : tH M d mc ms F pc L ((0, b) :: (0, a) :: S) μ nc ns := by
  intro p l e R s m args below meth c D A sp ad0 z0 O ad ca H locs ls hg hR hS hL hT hl
  have kb := ts_h hT
  have ka := ts_h (ts_t hT)
  refine lv_irem (x := Int32.ofInt a) (y := Int32.ofInt b) O.x O.b hd (fun q => hb ?_) ?_
  · have := congrArg Int32.toInt q
    rw [tr_it kb] at this
    simpa using this
  · rw [xi_rem ka kb]
    exact h p l e R s m args below meth c D A sp ad0 z0 O ad ca H locs ls hg hR hS hL (ts_c (xi_remok ka) (ts_t (ts_t hT))) hl
theorem g_lneg {a : Int} (hd : decode M.2.1 pc = .ok (.lneg, 1)) (h : tH M d mc ms F (pc + 1) L ((1, w64 (-a)) :: S) μ nc ns) : tH M d mc ms F pc L ((1, a) :: S) μ nc ns := by
  intro p l e R s m args below meth c D A sp ad0 z0 O ad ca H locs ls hg hR hS hL hT hl
  refine lv_lneg (x := Int64.ofInt a) O.x O.b hd ?_
  have k1 := h p l e R s m args below meth c D A sp ad0 z0 O ad ca H locs ls hg hR hS hL (ts_c (w64_ok _ _) (ts_t hT)) hl
  have e1 : -Int64.ofInt a = Int64.ofInt (w64 (-a)) := by rw [i64_w, Int64.ofInt_neg]
  rw [e1]
  exact k1
theorem xl_div {z a b : Int} (ha : tr_s z 1 a) (hb : tr_s z 1 b) : Int64.ofInt a / Int64.ofInt b = Int64.ofInt (w64 (a.tdiv b)) := by
  rw [i64_w, ← Int64.toInt_inj, Int64.toInt_div, tr_lt ha, tr_lt hb, Int64.toInt_ofInt]
theorem xl_rem {z a b : Int} (ha : tr_s z 1 a) (hb : tr_s z 1 b) : Int64.ofInt a - Int64.ofInt a / Int64.ofInt b * Int64.ofInt b = Int64.ofInt (a.tmod b) := by
  rw [xl_div ha hb, i64_w, ← Int64.ofInt_mul, ← Int64.ofInt_sub]
  congr 1
  have := Int.tmod_add_tdiv_mul a b
  omega
theorem xl_remok {z a b : Int} (ha : tr_s z 1 a) : tr_s z 1 (a.tmod b) := by
  refine ⟨Or.inl (by decide), ?_⟩
  have h1 := tr_l ha
  have h2 : (a.tmod b).natAbs ≤ a.natAbs := by
    rw [Int.natAbs_tmod]
    exact Nat.mod_le _ _
  show -9223372036854775808 ≤ a.tmod b ∧ a.tmod b ≤ 9223372036854775807
  have h3 : 0 ≤ a → 0 ≤ a.tmod b := fun h => Int.tmod_nonneg b h
  have h4 : a ≤ 0 → a.tmod b ≤ 0 := fun h => by have h5 := Int.tmod_nonneg b (show 0 ≤ -a by omega); rw [Int.neg_tmod] at h5; omega
  omega
theorem g_ldiv {a b : Int} (hd : decode M.2.1 pc = .ok (.ldiv, 1)) (hb : b ≠ 0) (h : tH M d mc ms F (pc + 1) L ((1, w64 (a.tdiv b)) :: S) μ nc ns) : tH M d mc ms F pc L ((1, b) :: (1, a) :: S) μ nc ns := by
  intro p l e R s m args below meth c D A sp ad0 z0 O ad ca H locs ls hg hR hS hL hT hl
  have kb := ts_h hT
  have ka := ts_h (ts_t hT)
  refine lv_ldiv (x := Int64.ofInt a) (y := Int64.ofInt b) O.x O.b hd (fun q => hb ?_) ?_
  · have := congrArg Int64.toInt q
    rw [tr_lt kb] at this
    simpa using this
  · rw [xl_div ka kb]
    exact h p l e R s m args below meth c D A sp ad0 z0 O ad ca H locs ls hg hR hS hL (ts_c (w64_ok _ _) (ts_t (ts_t hT))) hl
theorem g_lrem {a b : Int} (hd : decode M.2.1 pc = .ok (.lrem, 1)) (hb : b ≠ 0) (h : tH M d mc ms F (pc + 1) L ((1, a.tmod b) :: S) μ nc ns) : tH M d mc ms F pc L ((1, b) :: (1, a) :: S) μ nc ns := by
  intro p l e R s m args below meth c D A sp ad0 z0 O ad ca H locs ls hg hR hS hL hT hl
  have kb := ts_h hT
  have ka := ts_h (ts_t hT)
  refine lv_lrem (x := Int64.ofInt a) (y := Int64.ofInt b) O.x O.b hd (fun q => hb ?_) ?_
  · have := congrArg Int64.toInt q
    rw [tr_lt kb] at this
    simpa using this
  · rw [xl_rem ka kb]
    exact h p l e R s m args below meth c D A sp ad0 z0 O ad ca H locs ls hg hR hS hL (ts_c (xl_remok ka) (ts_t (ts_t hT))) hl
def i_and (a b : Int) : Int := (Int32.ofInt a &&& Int32.ofInt b).toInt
theorem i_and_ok (z a b : Int) : tr_s z 0 (i_and a b) := by
  have := w32_ok z (i_and a b)
  unfold i_and w32 at *
  rw [Int32.ofInt_toInt] at this
  exact this
theorem g_iand {a b : Int} (hd : decode M.2.1 pc = .ok (.iand, 1)) (h : tH M d mc ms F (pc + 1) L ((0, i_and a b) :: S) μ nc ns) : tH M d mc ms F pc L ((0, b) :: (0, a) :: S) μ nc ns := by
  intro p l e R s m args below meth c D A sp ad0 z0 O ad ca H locs ls hg hR hS hL hT hl
  refine lv_iand (x := Int32.ofInt a) (y := Int32.ofInt b) O.x O.b hd ?_
  have k1 := h p l e R s m args below meth c D A sp ad0 z0 O ad ca H locs ls hg hR hS hL (ts_c (i_and_ok _ _ _) (ts_t (ts_t hT))) hl
  have e1 : Int32.ofInt a &&& Int32.ofInt b = Int32.ofInt (i_and a b) := (Int32.ofInt_toInt _).symm
  rw [e1]
  exact k1
def l_and (a b : Int) : Int := (Int64.ofInt a &&& Int64.ofInt b).toInt
theorem l_and_ok (z a b : Int) : tr_s z 1 (l_and a b) := by
  have := w64_ok z (l_and a b)
  unfold l_and w64 at *
  rw [Int64.ofInt_toInt] at this
  exact this
theorem g_land {a b : Int} (hd : decode M.2.1 pc = .ok (.land, 1)) (h : tH M d mc ms F (pc + 1) L ((1, l_and a b) :: S) μ nc ns) : tH M d mc ms F pc L ((1, b) :: (1, a) :: S) μ nc ns := by
  intro p l e R s m args below meth c D A sp ad0 z0 O ad ca H locs ls hg hR hS hL hT hl
  refine lv_land (x := Int64.ofInt a) (y := Int64.ofInt b) O.x O.b hd ?_
  have k1 := h p l e R s m args below meth c D A sp ad0 z0 O ad ca H locs ls hg hR hS hL (ts_c (l_and_ok _ _ _) (ts_t (ts_t hT))) hl
  have e1 : Int64.ofInt a &&& Int64.ofInt b = Int64.ofInt (l_and a b) := (Int64.ofInt_toInt _).symm
  rw [e1]
  exact k1
def i_or (a b : Int) : Int := (Int32.ofInt a ||| Int32.ofInt b).toInt
theorem i_or_ok (z a b : Int) : tr_s z 0 (i_or a b) := by
  have := w32_ok z (i_or a b)
  unfold i_or w32 at *
  rw [Int32.ofInt_toInt] at this
  exact this
theorem g_ior {a b : Int} (hd : decode M.2.1 pc = .ok (.ior, 1)) (h : tH M d mc ms F (pc + 1) L ((0, i_or a b) :: S) μ nc ns) : tH M d mc ms F pc L ((0, b) :: (0, a) :: S) μ nc ns := by
  intro p l e R s m args below meth c D A sp ad0 z0 O ad ca H locs ls hg hR hS hL hT hl
  refine lv_ior (x := Int32.ofInt a) (y := Int32.ofInt b) O.x O.b hd ?_
  have k1 := h p l e R s m args below meth c D A sp ad0 z0 O ad ca H locs ls hg hR hS hL (ts_c (i_or_ok _ _ _) (ts_t (ts_t hT))) hl
  have e1 : Int32.ofInt a ||| Int32.ofInt b = Int32.ofInt (i_or a b) := (Int32.ofInt_toInt _).symm
  rw [e1]
  exact k1
def l_or (a b : Int) : Int := (Int64.ofInt a ||| Int64.ofInt b).toInt
theorem l_or_ok (z a b : Int) : tr_s z 1 (l_or a b) := by
  have := w64_ok z (l_or a b)
  unfold l_or w64 at *
  rw [Int64.ofInt_toInt] at this
  exact this
theorem g_lor {a b : Int} (hd : decode M.2.1 pc = .ok (.lor, 1)) (h : tH M d mc ms F (pc + 1) L ((1, l_or a b) :: S) μ nc ns) : tH M d mc ms F pc L ((1, b) :: (1, a) :: S) μ nc ns := by
  intro p l e R s m args below meth c D A sp ad0 z0 O ad ca H locs ls hg hR hS hL hT hl
  refine lv_lor (x := Int64.ofInt a) (y := Int64.ofInt b) O.x O.b hd ?_
  have k1 := h p l e R s m args below meth c D A sp ad0 z0 O ad ca H locs ls hg hR hS hL (ts_c (l_or_ok _ _ _) (ts_t (ts_t hT))) hl
  have e1 : Int64.ofInt a ||| Int64.ofInt b = Int64.ofInt (l_or a b) := (Int64.ofInt_toInt _).symm
  rw [e1]
  exact k1
def i_shl (a b : Int) : Int := (Int32.ofInt a <<< (Int32.ofInt b &&& 31)).toInt
theorem i_shl_ok (z a b : Int) : tr_s z 0 (i_shl a b) := by
  have := w32_ok z (i_shl a b)
  unfold i_shl w32 at *
  rw [Int32.ofInt_toInt] at this
  exact this
theorem g_ishl {a b : Int} (hd : decode M.2.1 pc = .ok (.ishl, 1)) (h : tH M d mc ms F (pc + 1) L ((0, i_shl a b) :: S) μ nc ns) : tH M d mc ms F pc L ((0, b) :: (0, a) :: S) μ nc ns := by
  intro p l e R s m args below meth c D A sp ad0 z0 O ad ca H locs ls hg hR hS hL hT hl
  refine lv_ishl (x := Int32.ofInt a) (y := Int32.ofInt b) O.x O.b hd ?_
  have k1 := h p l e R s m args below meth c D A sp ad0 z0 O ad ca H locs ls hg hR hS hL (ts_c (i_shl_ok _ _ _) (ts_t (ts_t hT))) hl
  have e1 : Int32.ofInt a <<< (Int32.ofInt b &&& 31) = Int32.ofInt (i_shl a b) := (Int32.ofInt_toInt _).symm
  rw [e1]
  exact k1
def i_shr (a b : Int) : Int := (Int32.ofInt a >>> (Int32.ofInt b &&& 31)).toInt
theorem i_shr_ok (z a b : Int) : tr_s z 0 (i_shr a b) := by
  have := w32_ok z (i_shr a b)
  unfold i_shr w32 at *
  rw [Int32.ofInt_toInt] at this
  exact this
theorem g_ishr {a b : Int} (hd : decode M.2.1 pc = .ok (.ishr, 1)) (h : tH M d mc ms F (pc + 1) L ((0, i_shr a b) :: S) μ nc ns) : tH M d mc ms F pc L ((0, b) :: (0, a) :: S) μ nc ns := by
  intro p l e R s m args below meth c D A sp ad0 z0 O ad ca H locs ls hg hR hS hL hT hl
  refine lv_ishr (x := Int32.ofInt a) (y := Int32.ofInt b) O.x O.b hd ?_
  have k1 := h p l e R s m args below meth c D A sp ad0 z0 O ad ca H locs ls hg hR hS hL (ts_c (i_shr_ok _ _ _) (ts_t (ts_t hT))) hl
  have e1 : Int32.ofInt a >>> (Int32.ofInt b &&& 31) = Int32.ofInt (i_shr a b) := (Int32.ofInt_toInt _).symm
  rw [e1]
  exact k1
def l_shl (a b : Int) : Int := (Int64.ofInt a <<< ((Int32.ofInt b).toInt64 &&& 63)).toInt
theorem l_shl_ok (z a b : Int) : tr_s z 1 (l_shl a b) := by
  have := w64_ok z (l_shl a b)
  unfold l_shl w64 at *
  rw [Int64.ofInt_toInt] at this
  exact this
theorem g_lshl {a b : Int} (hd : decode M.2.1 pc = .ok (.lshl, 1)) (h : tH M d mc ms F (pc + 1) L ((1, l_shl a b) :: S) μ nc ns) : tH M d mc ms F pc L ((0, b) :: (1, a) :: S) μ nc ns := by
  intro p l e R s m args below meth c D A sp ad0 z0 O ad ca H locs ls hg hR hS hL hT hl
  exact lv_lshl (x := Int64.ofInt a) (y := Int32.ofInt b) (v := Int64.ofInt (l_shl a b)) O.x O.b hd (Int64.ofInt_toInt _).symm (h p l e R s m args below meth c D A sp ad0 z0 O ad ca H locs ls hg hR hS hL (ts_c (l_shl_ok _ _ _) (ts_t (ts_t hT))) hl)
theorem g_i2l {a : Int} (hd : decode M.2.1 pc = .ok (.i2l, 1)) (h : tH M d mc ms F (pc + 1) L ((1, a) :: S) μ nc ns) : tH M d mc ms F pc L ((0, a) :: S) μ nc ns := by
  intro p l e R s m args below meth c D A sp ad0 z0 O ad ca H locs ls hg hR hS hL hT hl
  have ka := ts_h hT
  refine lv_i2l (x := Int32.ofInt a) (v := Int64.ofInt a) O.x O.b hd ?_ (h p l e R s m args below meth c D A sp ad0 z0 O ad ca H locs ls hg hR hS hL (ts_c (tr_k rfl (by have := tr_i ka; show -9223372036854775808 ≤ a ∧ a ≤ 9223372036854775807; omega)) (ts_t hT)) hl)
  rw [← Int64.toInt_inj, Int32.toInt_toInt64, tr_it ka]
  have := tr_i ka
  rw [i64_t (by omega) (by omega)]
theorem g_l2i {a : Int} (hd : decode M.2.1 pc = .ok (.l2i, 1)) (h : tH M d mc ms F (pc + 1) L ((0, w32 a) :: S) μ nc ns) : tH M d mc ms F pc L ((1, a) :: S) μ nc ns := by
  intro p l e R s m args below meth c D A sp ad0 z0 O ad ca H locs ls hg hR hS hL hT hl
  have ka := ts_h hT
  refine lv_l2i (x := Int64.ofInt a) (v := Int32.ofInt (w32 a)) O.x O.b hd ?_ (h p l e R s m args below meth c D A sp ad0 z0 O ad ca H locs ls hg hR hS hL (ts_c (w32_ok _ _) (ts_t hT)) hl)
  rw [i32_w, ← Int32.toInt_inj, Int64.toInt_toInt32, tr_lt ka, Int32.toInt_ofInt]
def w8 (x : Int) : Int := (Int8.ofInt x).toInt
def w16 (x : Int) : Int := (Int16.ofInt x).toInt
theorem w8_in (x : Int) : -128 ≤ w8 x ∧ w8 x ≤ 127 := by
  have h1 := Int8.le_toInt (Int8.ofInt x)
  have h2 := Int8.toInt_lt (Int8.ofInt x)
  unfold w8
  omega
theorem w16_in (x : Int) : -32768 ≤ w16 x ∧ w16 x ≤ 32767 := by
  have h1 := Int16.le_toInt (Int16.ofInt x)
  have h2 := Int16.toInt_lt (Int16.ofInt x)
  unfold w16
  omega
theorem g_i2b {a : Int} (hd : decode M.2.1 pc = .ok (.i2b, 1)) (h : tH M d mc ms F (pc + 1) L ((0, w8 a) :: S) μ nc ns) : tH M d mc ms F pc L ((0, a) :: S) μ nc ns := by
  intro p l e R s m args below meth c D A sp ad0 z0 O ad ca H locs ls hg hR hS hL hT hl
  have ka := ts_h hT
  have h8 := w8_in a
  refine lv_i2b (x := Int32.ofInt a) (v := Int32.ofInt (w8 a)) O.x O.b hd ?_ (h p l e R s m args below meth c D A sp ad0 z0 O ad ca H locs ls hg hR hS hL (ts_c (tr_k rfl (by show -2147483648 ≤ w8 a ∧ w8 a ≤ 2147483647; omega)) (ts_t hT)) hl)
  rw [← Int32.toInt_inj, Int8.toInt_toInt32, Int32.toInt_toInt8, tr_it ka, i32_t (by omega) (by omega)]
  unfold w8
  rw [Int8.toInt_ofInt]
theorem g_i2s {a : Int} (hd : decode M.2.1 pc = .ok (.i2s, 1)) (h : tH M d mc ms F (pc + 1) L ((0, w16 a) :: S) μ nc ns) : tH M d mc ms F pc L ((0, a) :: S) μ nc ns := by
  intro p l e R s m args below meth c D A sp ad0 z0 O ad ca H locs ls hg hR hS hL hT hl
  have ka := ts_h hT
  have h8 := w16_in a
  refine lv_i2s (x := Int32.ofInt a) (v := Int32.ofInt (w16 a)) O.x O.b hd ?_ (h p l e R s m args below meth c D A sp ad0 z0 O ad ca H locs ls hg hR hS hL (ts_c (tr_k rfl (by show -2147483648 ≤ w16 a ∧ w16 a ≤ 2147483647; omega)) (ts_t hT)) hl)
  rw [← Int32.toInt_inj, Int16.toInt_toInt32, Int32.toInt_toInt16, tr_it ka, i32_t (by omega) (by omega)]
  unfold w16
  rw [Int16.toInt_ofInt]
theorem te_c1 (ad : Int → Nat) {τ : Nat} (x : Int) (h : τ ≠ 1) : (te_v ad τ x).category = 1 := by
  have h1 := te_cat ad τ x
  have h2 : (τ == 1) = false := by simpa using h
  rw [h2] at h1
  rcases lv_cat (te_v ad τ x) with h3 | h3
  · exact h3
  · rw [h3] at h1; cases h1
theorem g_dup {τ : Nat} {x : Int} (hd : decode M.2.1 pc = .ok (.dup, 1)) (hτ : τ ≠ 1) (h : tH M d mc ms F (pc + 1) L ((τ, x) :: (τ, x) :: S) μ nc ns) : tH M d mc ms F pc L ((τ, x) :: S) μ nc ns := by
  intro p l e R s m args below meth c D A sp ad0 z0 O ad ca H locs ls hg hR hS hL hT hl
  exact lv_dup O.x O.b hd (te_c1 ad x hτ) (h p l e R s m args below meth c D A sp ad0 z0 O ad ca H locs ls hg hR hS hL (ts_c (ts_h hT) hT) hl)
theorem g_pop {τ : Nat} {x : Int} (hd : decode M.2.1 pc = .ok (.pop, 1)) (hτ : τ ≠ 1) (h : tH M d mc ms F (pc + 1) L S μ nc ns) : tH M d mc ms F pc L ((τ, x) :: S) μ nc ns := by
  intro p l e R s m args below meth c D A sp ad0 z0 O ad ca H locs ls hg hR hS hL hT hl
  exact lv_pop O.x O.b hd (te_c1 ad x hτ) (h p l e R s m args below meth c D A sp ad0 z0 O ad ca H locs ls hg hR hS hL (ts_t hT) hl)
theorem g_dup2_11 {τ σ : Nat} {x y : Int} (hd : decode M.2.1 pc = .ok (.dup2, 1)) (hτ : τ ≠ 1) (hσ : σ ≠ 1) (h : tH M d mc ms F (pc + 1) L ((τ, x) :: (σ, y) :: (τ, x) :: (σ, y) :: S) μ nc ns) : tH M d mc ms F pc L ((τ, x) :: (σ, y) :: S) μ nc ns := by
  intro p l e R s m args below meth c D A sp ad0 z0 O ad ca H locs ls hg hR hS hL hT hl
  exact lv_dup2_11 O.x O.b hd (te_c1 ad x hτ) (te_c1 ad y hσ) (h p l e R s m args below meth c D A sp ad0 z0 O ad ca H locs ls hg hR hS hL (ts_c (ts_h hT) (ts_c (ts_h (ts_t hT)) hT)) hl)
theorem g_goto {off : Int} {tgt : Nat} (hd : decode M.2.1 pc = .ok (.goto off, 3)) (ht : (pc : Int) + off = (tgt : Int)) (h : tH M d mc ms F tgt L S μ nc ns) : tH M d mc ms F pc L S μ nc ns := by
  intro p l e R s m args below meth c D A sp ad0 z0 O ad ca H locs ls hg hR hS hL hT hl
  exact lv_goto O.x O.b hd ht (h p l e R s m args below meth c D A sp ad0 z0 O ad ca H locs ls hg hR hS hL (hT) hl)
theorem g_icmp_lt {a b off : Int} {tgt : Nat} (hd : decode M.2.1 pc = .ok (.if_icmp .lt off, 3)) (ht : (pc : Int) + off = (tgt : Int)) (h1 : a < b → tH M d mc ms F tgt L S μ nc ns) (h2 : b ≤ a → tH M d mc ms F (pc + 3) L S μ nc ns) : tH M d mc ms F pc L ((0, b) :: (0, a) :: S) μ nc ns := by
  intro p l e R s m args below meth c D A sp ad0 z0 O ad ca H locs ls hg hR hS hL hT hl
  have kb := ts_h hT
  have ka := ts_h (ts_t hT)
  exact lv_icmp_lt (x := Int32.ofInt a) (y := Int32.ofInt b) O.x O.b hd ht (fun q => h1 ((c_lt ka kb).mp q) p l e R s m args below meth c D A sp ad0 z0 O ad ca H locs ls hg hR hS hL (ts_t (ts_t hT)) hl) (fun q => h2 (Int.not_lt.mp (fun r => q ((c_lt ka kb).mpr r))) p l e R s m args below meth c D A sp ad0 z0 O ad ca H locs ls hg hR hS hL (ts_t (ts_t hT)) hl)
theorem g_if_lt {a off : Int} {tgt : Nat} (hd : decode M.2.1 pc = .ok (.ifCond .lt off, 3)) (ht : (pc : Int) + off = (tgt : Int)) (h1 : a < 0 → tH M d mc ms F tgt L S μ nc ns) (h2 : 0 ≤ a → tH M d mc ms F (pc + 3) L S μ nc ns) : tH M d mc ms F pc L ((0, a) :: S) μ nc ns := by
  intro p l e R s m args below meth c D A sp ad0 z0 O ad ca H locs ls hg hR hS hL hT hl
  have ka := ts_h hT
  have kb := c_k0 (tm_z μ)
  exact lv_if_lt (x := Int32.ofInt a) O.x O.b hd ht (fun q => h1 ((c_lt ka kb).mp q) p l e R s m args below meth c D A sp ad0 z0 O ad ca H locs ls hg hR hS hL (ts_t hT) hl) (fun q => h2 (Int.not_lt.mp (fun r => q ((c_lt ka kb).mpr r))) p l e R s m args below meth c D A sp ad0 z0 O ad ca H locs ls hg hR hS hL (ts_t hT) hl)
theorem g_icmp_ge {a b off : Int} {tgt : Nat} (hd : decode M.2.1 pc = .ok (.if_icmp .ge off, 3)) (ht : (pc : Int) + off = (tgt : Int)) (h1 : b ≤ a → tH M d mc ms F tgt L S μ nc ns) (h2 : a < b → tH M d mc ms F (pc + 3) L S μ nc ns) : tH M d mc ms F pc L ((0, b) :: (0, a) :: S) μ nc ns := by
  intro p l e R s m args below meth c D A sp ad0 z0 O ad ca H locs ls hg hR hS hL hT hl
  have kb := ts_h hT
  have ka := ts_h (ts_t hT)
  exact lv_icmp_ge (x := Int32.ofInt a) (y := Int32.ofInt b) O.x O.b hd ht (fun q => h1 ((c_le kb ka).mp q) p l e R s m args below meth c D A sp ad0 z0 O ad ca H locs ls hg hR hS hL (ts_t (ts_t hT)) hl) (fun q => h2 (Int.not_le.mp (fun r => q ((c_le kb ka).mpr r))) p l e R s m args below meth c D A sp ad0 z0 O ad ca H locs ls hg hR hS hL (ts_t (ts_t hT)) hl)
theorem g_if_ge {a off : Int} {tgt : Nat} (hd : decode M.2.1 pc = .ok (.ifCond .ge off, 3)) (ht : (pc : Int) + off = (tgt : Int)) (h1 : 0 ≤ a → tH M d mc ms F tgt L S μ nc ns) (h2 : a < 0 → tH M d mc ms F (pc + 3) L S μ nc ns) : tH M d mc ms F pc L ((0, a) :: S) μ nc ns := by
  intro p l e R s m args below meth c D A sp ad0 z0 O ad ca H locs ls hg hR hS hL hT hl
  have ka := ts_h hT
  have kb := c_k0 (tm_z μ)
  exact lv_if_ge (x := Int32.ofInt a) O.x O.b hd ht (fun q => h1 ((c_le kb ka).mp q) p l e R s m args below meth c D A sp ad0 z0 O ad ca H locs ls hg hR hS hL (ts_t hT) hl) (fun q => h2 (Int.not_le.mp (fun r => q ((c_le kb ka).mpr r))) p l e R s m args below meth c D A sp ad0 z0 O ad ca H locs ls hg hR hS hL (ts_t hT) hl)
theorem g_icmp_gt {a b off : Int} {tgt : Nat} (hd : decode M.2.1 pc = .ok (.if_icmp .gt off, 3)) (ht : (pc : Int) + off = (tgt : Int)) (h1 : b < a → tH M d mc ms F tgt L S μ nc ns) (h2 : a ≤ b → tH M d mc ms F (pc + 3) L S μ nc ns) : tH M d mc ms F pc L ((0, b) :: (0, a) :: S) μ nc ns := by
  intro p l e R s m args below meth c D A sp ad0 z0 O ad ca H locs ls hg hR hS hL hT hl
  have kb := ts_h hT
  have ka := ts_h (ts_t hT)
  exact lv_icmp_gt (x := Int32.ofInt a) (y := Int32.ofInt b) O.x O.b hd ht (fun q => h1 ((c_lt kb ka).mp q) p l e R s m args below meth c D A sp ad0 z0 O ad ca H locs ls hg hR hS hL (ts_t (ts_t hT)) hl) (fun q => h2 (Int.not_lt.mp (fun r => q ((c_lt kb ka).mpr r))) p l e R s m args below meth c D A sp ad0 z0 O ad ca H locs ls hg hR hS hL (ts_t (ts_t hT)) hl)
theorem g_if_gt {a off : Int} {tgt : Nat} (hd : decode M.2.1 pc = .ok (.ifCond .gt off, 3)) (ht : (pc : Int) + off = (tgt : Int)) (h1 : 0 < a → tH M d mc ms F tgt L S μ nc ns) (h2 : a ≤ 0 → tH M d mc ms F (pc + 3) L S μ nc ns) : tH M d mc ms F pc L ((0, a) :: S) μ nc ns := by
  intro p l e R s m args below meth c D A sp ad0 z0 O ad ca H locs ls hg hR hS hL hT hl
  have ka := ts_h hT
  have kb := c_k0 (tm_z μ)
  exact lv_if_gt (x := Int32.ofInt a) O.x O.b hd ht (fun q => h1 ((c_lt kb ka).mp q) p l e R s m args below meth c D A sp ad0 z0 O ad ca H locs ls hg hR hS hL (ts_t hT) hl) (fun q => h2 (Int.not_lt.mp (fun r => q ((c_lt kb ka).mpr r))) p l e R s m args below meth c D A sp ad0 z0 O ad ca H locs ls hg hR hS hL (ts_t hT) hl)
theorem g_icmp_le {a b off : Int} {tgt : Nat} (hd : decode M.2.1 pc = .ok (.if_icmp .le off, 3)) (ht : (pc : Int) + off = (tgt : Int)) (h1 : a ≤ b → tH M d mc ms F tgt L S μ nc ns) (h2 : b < a → tH M d mc ms F (pc + 3) L S μ nc ns) : tH M d mc ms F pc L ((0, b) :: (0, a) :: S) μ nc ns := by
  intro p l e R s m args below meth c D A sp ad0 z0 O ad ca H locs ls hg hR hS hL hT hl
  have kb := ts_h hT
  have ka := ts_h (ts_t hT)
  exact lv_icmp_le (x := Int32.ofInt a) (y := Int32.ofInt b) O.x O.b hd ht (fun q => h1 ((c_le ka kb).mp q) p l e R s m args below meth c D A sp ad0 z0 O ad ca H locs ls hg hR hS hL (ts_t (ts_t hT)) hl) (fun q => h2 (Int.not_le.mp (fun r => q ((c_le ka kb).mpr r))) p l e R s m args below meth c D A sp ad0 z0 O ad ca H locs ls hg hR hS hL (ts_t (ts_t hT)) hl)
theorem g_if_le {a off : Int} {tgt : Nat} (hd : decode M.2.1 pc = .ok (.ifCond .le off, 3)) (ht : (pc : Int) + off = (tgt : Int)) (h1 : a ≤ 0 → tH M d mc ms F tgt L S μ nc ns) (h2 : 0 < a → tH M d mc ms F (pc + 3) L S μ nc ns) : tH M d mc ms F pc L ((0, a) :: S) μ nc ns := by
  intro p l e R s m args below meth c D A sp ad0 z0 O ad ca H locs ls hg hR hS hL hT hl
  have ka := ts_h hT
  have kb := c_k0 (tm_z μ)
  exact lv_if_le (x := Int32.ofInt a) O.x O.b hd ht (fun q => h1 ((c_le ka kb).mp q) p l e R s m args below meth c D A sp ad0 z0 O ad ca H locs ls hg hR hS hL (ts_t hT) hl) (fun q => h2 (Int.not_le.mp (fun r => q ((c_le ka kb).mpr r))) p l e R s m args below meth c D A sp ad0 z0 O ad ca H locs ls hg hR hS hL (ts_t hT) hl)
theorem g_icmp_eq {a b off : Int} {tgt : Nat} (hd : decode M.2.1 pc = .ok (.if_icmp .eq off, 3)) (ht : (pc : Int) + off = (tgt : Int)) (h1 : a = b → tH M d mc ms F tgt L S μ nc ns) (h2 : a ≠ b → tH M d mc ms F (pc + 3) L S μ nc ns) : tH M d mc ms F pc L ((0, b) :: (0, a) :: S) μ nc ns := by
  intro p l e R s m args below meth c D A sp ad0 z0 O ad ca H locs ls hg hR hS hL hT hl
  have kb := ts_h hT
  have ka := ts_h (ts_t hT)
  exact lv_icmp_eq (x := Int32.ofInt a) (y := Int32.ofInt b) O.x O.b hd ht (fun q => h1 ((c_eq ka kb).mp q) p l e R s m args below meth c D A sp ad0 z0 O ad ca H locs ls hg hR hS hL (ts_t (ts_t hT)) hl) (fun q => h2 ((fun r => q ((c_eq ka kb).mpr r))) p l e R s m args below meth c D A sp ad0 z0 O ad ca H locs ls hg hR hS hL (ts_t (ts_t hT)) hl)
theorem g_if_eq {a off : Int} {tgt : Nat} (hd : decode M.2.1 pc = .ok (.ifCond .eq off, 3)) (ht : (pc : Int) + off = (tgt : Int)) (h1 : a = 0 → tH M d mc ms F tgt L S μ nc ns) (h2 : a ≠ 0 → tH M d mc ms F (pc + 3) L S μ nc ns) : tH M d mc ms F pc L ((0, a) :: S) μ nc ns := by
  intro p l e R s m args below meth c D A sp ad0 z0 O ad ca H locs ls hg hR hS hL hT hl
  have ka := ts_h hT
  have kb := c_k0 (tm_z μ)
  exact lv_if_eq (x := Int32.ofInt a) O.x O.b hd ht (fun q => h1 ((c_eq ka kb).mp q) p l e R s m args below meth c D A sp ad0 z0 O ad ca H locs ls hg hR hS hL (ts_t hT) hl) (fun q => h2 ((fun r => q ((c_eq ka kb).mpr r))) p l e R s m args below meth c D A sp ad0 z0 O ad ca H locs ls hg hR hS hL (ts_t hT) hl)
theorem g_icmp_ne {a b off : Int} {tgt : Nat} (hd : decode M.2.1 pc = .ok (.if_icmp .ne off, 3)) (ht : (pc : Int) + off = (tgt : Int)) (h1 : a ≠ b → tH M d mc ms F tgt L S μ nc ns) (h2 : a = b → tH M d mc ms F (pc + 3) L S μ nc ns) : tH M d mc ms F pc L ((0, b) :: (0, a) :: S) μ nc ns := by
  intro p l e R s m args below meth c D A sp ad0 z0 O ad ca H locs ls hg hR hS hL hT hl
  have kb := ts_h hT
  have ka := ts_h (ts_t hT)
  exact lv_icmp_ne (x := Int32.ofInt a) (y := Int32.ofInt b) O.x O.b hd ht (fun q => h1 ((fun r => q ((c_eq ka kb).mpr r))) p l e R s m args below meth c D A sp ad0 z0 O ad ca H locs ls hg hR hS hL (ts_t (ts_t hT)) hl) (fun q => h2 ((c_eq ka kb).mp q) p l e R s m args below meth c D A sp ad0 z0 O ad ca H locs ls hg hR hS hL (ts_t (ts_t hT)) hl)
theorem g_if_ne {a off : Int} {tgt : Nat} (hd : decode M.2.1 pc = .ok (.ifCond .ne off, 3)) (ht : (pc : Int) + off = (tgt : Int)) (h1 : a ≠ 0 → tH M d mc ms F tgt L S μ nc ns) (h2 : a = 0 → tH M d mc ms F (pc + 3) L S μ nc ns) : tH M d mc ms F pc L ((0, a) :: S) μ nc ns := by
  intro p l e R s m args below meth c D A sp ad0 z0 O ad ca H locs ls hg hR hS hL hT hl
  have ka := ts_h hT
  have kb := c_k0 (tm_z μ)
  exact lv_if_ne (x := Int32.ofInt a) O.x O.b hd ht (fun q => h1 ((fun r => q ((c_eq ka kb).mpr r))) p l e R s m args below meth c D A sp ad0 z0 O ad ca H locs ls hg hR hS hL (ts_t hT) hl) (fun q => h2 ((c_eq ka kb).mp q) p l e R s m args below meth c D A sp ad0 z0 O ad ca H locs ls hg hR hS hL (ts_t hT) hl)
theorem lc_lt {z a b : Int} (ka : tr_s z 1 a) (kb : tr_s z 1 b) : lg_cmp (Int64.ofInt a) (Int64.ofInt b) = Int32.ofInt (if b < a then 1 else if a = b then 0 else -1) := by
  unfold lg_cmp
  by_cases h1 : b < a
  · rw [if_pos h1]; simp [(d_lt kb ka).mpr h1]
  · rw [if_neg h1]
    have n1 : ¬ Int64.ofInt b < Int64.ofInt a := fun q => h1 ((d_lt kb ka).mp q)
    by_cases h2 : a = b
    · subst h2; simp
    · have n2 : ¬ Int64.ofInt a = Int64.ofInt b := fun q => h2 ((d_eq ka kb).mp q)
      simp [n1, n2, h2]
theorem g_lcmp {a b : Int} (hd : decode M.2.1 pc = .ok (.lcmp, 1)) (h : tH M d mc ms F (pc + 1) L ((0, if b < a then 1 else if a = b then 0 else -1) :: S) μ nc ns) : tH M d mc ms F pc L ((1, b) :: (1, a) :: S) μ nc ns := by
  intro p l e R s m args below meth c D A sp ad0 z0 O ad ca H locs ls hg hR hS hL hT hl
  have kb := ts_h hT
  have ka := ts_h (ts_t hT)
  refine W.lcmp (x := Int64.ofInt a) (y := Int64.ofInt b) O.x O.b hd ?_
  rw [lc_lt ka kb]
  exact h p l e R s m args below meth c D A sp ad0 z0 O ad ca H locs ls hg hR hS hL (ts_c (tr_k rfl (by show -2147483648 ≤ (if b < a then (1 : Int) else if a = b then 0 else -1) ∧ (if b < a then (1 : Int) else if a = b then 0 else -1) ≤ 2147483647; split <;> (try split) <;> omega)) (ts_t (ts_t hT))) hl
theorem g_lcmp_lt {a b off : Int} {tgt : Nat} (hd : decode M.2.1 pc = .ok (.lcmp, 1)) (hd2 : decode M.2.1 (pc + 1) = .ok (.ifCond .lt off, 3)) (ht : ((pc + 1 : Nat) : Int) + off = (tgt : Int)) (h1 : a < b → tH M d mc ms F tgt L S μ nc ns) (h2 : b ≤ a → tH M d mc ms F (pc + 4) L S μ nc ns) : tH M d mc ms F pc L ((1, b) :: (1, a) :: S) μ nc ns :=
  g_lcmp hd (g_if_lt hd2 ht (fun q => h1 (by split at q <;> (try split at q) <;> omega)) (fun q => h2 (by split at q <;> (try split at q) <;> omega)))
theorem g_lcmp_ge {a b off : Int} {tgt : Nat} (hd : decode M.2.1 pc = .ok (.lcmp, 1)) (hd2 : decode M.2.1 (pc + 1) = .ok (.ifCond .ge off, 3)) (ht : ((pc + 1 : Nat) : Int) + off = (tgt : Int)) (h1 : b ≤ a → tH M d mc ms F tgt L S μ nc ns) (h2 : a < b → tH M d mc ms F (pc + 4) L S μ nc ns) : tH M d mc ms F pc L ((1, b) :: (1, a) :: S) μ nc ns :=
  g_lcmp hd (g_if_ge hd2 ht (fun q => h1 (by split at q <;> (try split at q) <;> omega)) (fun q => h2 (by split at q <;> (try split at q) <;> omega)))
theorem g_lcmp_gt {a b off : Int} {tgt : Nat} (hd : decode M.2.1 pc = .ok (.lcmp, 1)) (hd2 : decode M.2.1 (pc + 1) = .ok (.ifCond .gt off, 3)) (ht : ((pc + 1 : Nat) : Int) + off = (tgt : Int)) (h1 : b < a → tH M d mc ms F tgt L S μ nc ns) (h2 : a ≤ b → tH M d mc ms F (pc + 4) L S μ nc ns) : tH M d mc ms F pc L ((1, b) :: (1, a) :: S) μ nc ns :=
  g_lcmp hd (g_if_gt hd2 ht (fun q => h1 (by split at q <;> (try split at q) <;> omega)) (fun q => h2 (by split at q <;> (try split at q) <;> omega)))
theorem g_lcmp_le {a b off : Int} {tgt : Nat} (hd : decode M.2.1 pc = .ok (.lcmp, 1)) (hd2 : decode M.2.1 (pc + 1) = .ok (.ifCond .le off, 3)) (ht : ((pc + 1 : Nat) : Int) + off = (tgt : Int)) (h1 : a ≤ b → tH M d mc ms F tgt L S μ nc ns) (h2 : b < a → tH M d mc ms F (pc + 4) L S μ nc ns) : tH M d mc ms F pc L ((1, b) :: (1, a) :: S) μ nc ns :=
  g_lcmp hd (g_if_le hd2 ht (fun q => h1 (by split at q <;> (try split at q) <;> omega)) (fun q => h2 (by split at q <;> (try split at q) <;> omega)))
theorem g_lcmp_eq {a b off : Int} {tgt : Nat} (hd : decode M.2.1 pc = .ok (.lcmp, 1)) (hd2 : decode M.2.1 (pc + 1) = .ok (.ifCond .eq off, 3)) (ht : ((pc + 1 : Nat) : Int) + off = (tgt : Int)) (h1 : a = b → tH M d mc ms F tgt L S μ nc ns) (h2 : a ≠ b → tH M d mc ms F (pc + 4) L S μ nc ns) : tH M d mc ms F pc L ((1, b) :: (1, a) :: S) μ nc ns :=
  g_lcmp hd (g_if_eq hd2 ht (fun q => h1 (by split at q <;> (try split at q) <;> omega)) (fun q => h2 (by split at q <;> (try split at q) <;> omega)))
theorem g_lcmp_ne {a b off : Int} {tgt : Nat} (hd : decode M.2.1 pc = .ok (.lcmp, 1)) (hd2 : decode M.2.1 (pc + 1) = .ok (.ifCond .ne off, 3)) (ht : ((pc + 1 : Nat) : Int) + off = (tgt : Int)) (h1 : a ≠ b → tH M d mc ms F tgt L S μ nc ns) (h2 : a = b → tH M d mc ms F (pc + 4) L S μ nc ns) : tH M d mc ms F pc L ((1, b) :: (1, a) :: S) μ nc ns :=
  g_lcmp hd (g_if_ne hd2 ht (fun q => h1 (by split at q <;> (try split at q) <;> omega)) (fun q => h2 (by split at q <;> (try split at q) <;> omega)))
theorem g_istore_nN {k : Fin 4} {i : Nat} {x : Int} (L' : Int → tLs) (hd : decode M.2.1 pc = .ok (.istore_n k, 1)) (hi : (k : Nat) = i) (hn : i < M.2.2.1) (ks : List Nat) (hs : ∀ z, tl_pk ((i, 0, z) :: L.filter (tl_k1 i)) ks = L' z) (h : ∀ z, z = x → tH M d mc ms F (pc + 1) (L' z) S μ nc ns) : tH M d mc ms F pc L ((0, x) :: S) μ nc ns := g_istore_n hd hi hn ks (hs x) (h x rfl)
theorem g_istoreN {i : Nat} {x : Int} (L' : Int → tLs) (hd : decode M.2.1 pc = .ok (.istore i, 2)) (hn : i < M.2.2.1) (ks : List Nat) (hs : ∀ z, tl_pk ((i, 0, z) :: L.filter (tl_k1 i)) ks = L' z) (h : ∀ z, z = x → tH M d mc ms F (pc + 2) (L' z) S μ nc ns) : tH M d mc ms F pc L ((0, x) :: S) μ nc ns := g_istore hd hn ks (hs x) (h x rfl)
theorem g_lstore_nN {k : Fin 4} {i : Nat} {x : Int} (L' : Int → tLs) (hd : decode M.2.1 pc = .ok (.lstore_n k, 1)) (hi : (k : Nat) = i) (hn : i + 1 < M.2.2.1) (ks : List Nat) (hs : ∀ z, tl_pk ((i, 1, z) :: L.filter (tl_k2 i)) ks = L' z) (h : ∀ z, z = x → tH M d mc ms F (pc + 1) (L' z) S μ nc ns) : tH M d mc ms F pc L ((1, x) :: S) μ nc ns := g_lstore_n hd hi hn ks (hs x) (h x rfl)
theorem g_lstoreN {i : Nat} {x : Int} (L' : Int → tLs) (hd : decode M.2.1 pc = .ok (.lstore i, 2)) (hn : i + 1 < M.2.2.1) (ks : List Nat) (hs : ∀ z, tl_pk ((i, 1, z) :: L.filter (tl_k2 i)) ks = L' z) (h : ∀ z, z = x → tH M d mc ms F (pc + 2) (L' z) S μ nc ns) : tH M d mc ms F pc L ((1, x) :: S) μ nc ns := g_lstore hd hn ks (hs x) (h x rfl)
theorem g_astore_nN {k : Fin 4} {i : Nat} {x : Int} (L' : Int → tLs) (hd : decode M.2.1 pc = .ok (.astore_n k, 1)) (hi : (k : Nat) = i) (hn : i < M.2.2.1) (ks : List Nat) (hs : ∀ z, tl_pk ((i, 2, z) :: L.filter (tl_k1 i)) ks = L' z) (h : ∀ z, z = x → tH M d mc ms F (pc + 1) (L' z) S μ nc ns) : tH M d mc ms F pc L ((2, x) :: S) μ nc ns := g_astore_n hd hi hn ks (hs x) (h x rfl)
theorem g_astoreN {i : Nat} {x : Int} (L' : Int → tLs) (hd : decode M.2.1 pc = .ok (.astore i, 2)) (hn : i < M.2.2.1) (ks : List Nat) (hs : ∀ z, tl_pk ((i, 2, z) :: L.filter (tl_k1 i)) ks = L' z) (h : ∀ z, z = x → tH M d mc ms F (pc + 2) (L' z) S μ nc ns) : tH M d mc ms F pc L ((2, x) :: S) μ nc ns := g_astore hd hn ks (hs x) (h x rfl)
end RULES
