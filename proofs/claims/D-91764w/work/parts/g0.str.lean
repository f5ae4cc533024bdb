/-! THE KEY WORDS: a string that stands from the start; switches; athrow -/
def KB : List Int := [32, 112, 108, 97, 99, 101, 32, 108, 97, 110, 101, 32, 99, 114, 111, 115, 115, 32, 115, 108, 111, 119, 32, 104, 101, 97, 114, 115, 32, 115, 101, 101, 115, 32, 102, 105, 114, 115, 116, 32, 115, 101, 99, 111, 110, 100, 32, 116, 111, 32]
def KC (i : Int) : Int := KB.getD i.toNat 0
abbrev KL : Int := 50
abbrev kTm : Term := .string RX2 62
abbrev kVm : Term := .field kTm "java/lang/String" "value" "[B"
abbrev kFl : List Cond := flatC (Jvm.Cond.and given_1 narrow_1)
theorem k_w : (kFl.contains (Cond.exactly kTm "java/lang/String") && kFl.contains (Cond.eq (.field kTm "java/lang/String" "coder" "B") (.int 0)) && kFl.contains (Cond.arrayOf kVm .byte) && kFl.contains (Cond.eq (.length kVm) (.int 50)) && kFl.contains (Cond.eq (.static "java/lang/String" "COMPACT_STRINGS" "Z") (.int 1))) = true := by decide +kernel
theorem k_el : (List.range 50).all (fun j => kFl.contains (Cond.eq (.elem kVm (.int (Int32.ofNat j))) (.int (Int32.ofInt (KB.getD j 0))))) = true := by decide +kernel
section KEYS
variable {p : Program} {l : Launch} {e : Env} {R : Room} {s : State} {m : MethodId} {args : Array Value} {meth : Method} {c : Code} {D : va_G} {A : Nat → Prop} {sp : Int → Nat} {M : tM} {d mc ms : Nat}
/-- what stands at the start stands -/
theorem tB.from_ {P : State → Heap → Prop} (h : tB D A sp s) (h1 : ∀ (u U : State) (H : Heap), u.vm.Alike U.vm → P u H → P U H) (h2 : ∀ (U : State) (H H1 : Heap), (∀ a : Nat, a < H.size → ¬ A a → H1[a]? = H[a]?) → P U H → P U H1)
    (h3 : ∀ (s0 : State) (b : Nat), (∀ w ∈ lw_tbl, w.before #[Value.ref b] s0 = true) → (∀ w ∈ kFl, w.before #[Value.ref b] s0 = true) → (∀ a : Nat, a < s0.heap.size → ¬ A a) → kTm.eval #[] s0 none [] s0 = some (.ref (sp (-2))) → kVm.eval #[] s0 none [] s0 = some (.ref (sp (-3))) → (Term.static "jdk/internal/util/Preconditions" "SIOOBE_FORMATTER" "Ljava/util/function/BiFunction;").eval #[] s0 none [] s0 = some (if sp (-5) = 0 then .null else .ref (sp (-4))) → P s0 s0.heap) : P s s.heap := by
  obtain ⟨s0, b, ht, hn, -, hA, hW, -, ho, -, k1, k2, k3⟩ := h
  have q := h3 s0 b ht (fun w hw => flat_of_before _ hn w hw) (fun a ha hc => by have := (hA a).mp hc; omega) k1 k2 k3
  exact h2 s s0.heap s.heap (fun a ha _ => ho a ha) (h1 s0 s s0.heap hW.alike q)
theorem k_mem {w : Cond} (h : kFl.contains w = true) : w ∈ kFl := by simpa using h
theorem k_5 : Cond.exactly kTm "java/lang/String" ∈ kFl ∧ Cond.eq (.field kTm "java/lang/String" "coder" "B") (.int 0) ∈ kFl ∧ Cond.arrayOf kVm .byte ∈ kFl ∧ Cond.eq (.length kVm) (.int 50) ∈ kFl ∧ Cond.eq (.static "java/lang/String" "COMPACT_STRINGS" "Z") (.int 1) ∈ kFl := by
  have h := k_w
  simp only [Bool.and_eq_true] at h
  exact ⟨k_mem h.1.1.1.1, k_mem h.1.1.1.2, k_mem h.1.1.2, k_mem h.1.2, k_mem h.2⟩
theorem tB.kO (h : tB D A sp s) : va_O "java/lang/String" (sp (-2)) A s s.heap :=
  h.from_ (P := fun U H => va_O "java/lang/String" (sp (-2)) A U H) (fun _ _ _ hv q => q.moved hv) (fun _ _ _ hq q => q.kept hq) (fun s0 b _ hw hA k1 _ _ => by
    obtain ⟨a, c, cA, kA, q1, q2, q3, q4, q5, q6, -⟩ := Cond.exactly_spec (hw _ k_5.1)
    have e1 : (some (Value.ref a) : Option Value) = some (.ref (sp (-2))) := q1.symm.trans k1
    cases e1
    exact ⟨cA, q3, q5, by rw [q6]; exact q2, hA _ (Array.getElem?_eq_some_iff.mp q3).1⟩)
theorem tB.kC (h : tB D A sp s) : va_OF "java/lang/String" "coder" "B" (.int 0) (sp (-2)) A s s.heap :=
  h.from_ (P := fun U H => va_OF "java/lang/String" "coder" "B" (.int 0) (sp (-2)) A U H) (fun _ _ _ hv q => q.moved hv) (fun _ _ _ hq q => q.kept hq) (fun s0 b _ hw hA k1 _ _ => vk_OFof (args := #[.ref b]) (t := kTm) k1 (va_eqt (hw _ k_5.2.1)) hA)
theorem tB.kV (h : tB D A sp s) : va_OF "java/lang/String" "value" "[B" (.ref (sp (-3))) (sp (-2)) A s s.heap :=
  h.from_ (P := fun U H => va_OF "java/lang/String" "value" "[B" (.ref (sp (-3))) (sp (-2)) A U H) (fun _ _ _ hv q => q.moved hv) (fun _ _ _ hq q => q.kept hq) (fun s0 b _ hw hA k1 k2 _ => vk_OFof (args := #[]) (t := kTm) k1 k2 hA)
theorem tB.kT (h : tB D A sp s) : va_T .byte (sp (-3)) 50 (fun j => .int (Int32.ofInt (KB.getD j 0))) A s s.heap :=
  h.from_ (P := fun U H => va_T .byte (sp (-3)) 50 (fun j => .int (Int32.ofInt (KB.getD j 0))) A U H) (fun _ _ _ hv q => q.moved hv) (fun _ _ _ hq q => q.kept hq) (fun s0 b _ hw hA _ k2 _ => by
    obtain ⟨t, ht, hT⟩ := va_Tof (args := #[.ref b]) (s := s0) (tm := kVm) (ty := .byte) (N := 50) (f := fun j => .int (Int32.ofInt (KB.getD j 0))) (A := A) (by decide) (hw _ k_5.2.2.1) (va_eqt (hw _ k_5.2.2.2.1)) (fun j hj => va_eqt (hw _ (k_mem (List.all_eq_true.mp k_el j (List.mem_range.mpr hj))))) hA
    have e1 : (some (Value.ref t) : Option Value) = some (.ref (sp (-3))) := ht.symm.trans k2
    cases e1
    exact hT)
theorem tB.kZ (h : tB D A sp s) : va_Z "java/lang/String" "COMPACT_STRINGS" "Z" (.int 1) A s s.heap :=
  h.from_ (P := fun U H => va_Z "java/lang/String" "COMPACT_STRINGS" "Z" (.int 1) A U H) (fun _ _ _ hv q => q.moved hv) (fun _ _ _ hq q => q.kept hq) (fun s0 b ht hw hA _ _ _ => va_Zof (ht _ q706) (ht _ (lw_all_tbl q127)) (va_eqi (hw _ k_5.2.2.2.2)) hA)
theorem tB.kF (h : tB D A sp s) : va_Z "jdk/internal/util/Preconditions" "SIOOBE_FORMATTER" "Ljava/util/function/BiFunction;" (if sp (-5) = 0 then .null else .ref (sp (-4))) A s s.heap :=
  h.from_ (P := fun U H => va_Z "jdk/internal/util/Preconditions" "SIOOBE_FORMATTER" "Ljava/util/function/BiFunction;" (if sp (-5) = 0 then .null else .ref (sp (-4))) A U H) (fun _ _ _ hv q => q.moved hv) (fun _ _ _ hq q => q.kept hq) (fun s0 b ht hw hA _ _ k3 => va_Zof (args := #[.ref b]) (ht _ q722) (ht _ (lw_all_tbl q134)) k3 hA)
theorem tB.kR (h : tB D A sp s) : vk_R RX2 62 " place lane cross slow hears sees first second to " (sp (-2)) s := by
  obtain ⟨s0, b, ht, hn, -, hA, hW, -, ho, -, k1, k2, k3⟩ := h
  exact vk_R.warm hW (vk_R.of (A := #[]) (by have := ht _ q696; exact this) k1)
end KEYS
section KRULES
variable {M : tM} {d mc ms : Nat} {F : tF} {pc : Nat} {L : tLs} {S : tSt} {μ : tm_M} {nc ns : Nat}
theorem te_6 {sp ad0 : Int → Nat} {z0 : Int} {ad : Int → Nat} {μ : tm_M} (h : tg sp ad0 z0 ad μ) {x : Int} (hx : 1 ≤ x) : te_v ad 6 x = .ref (sp (-x)) := by
  show Value.ref (ad (-x)) = _
  rw [h.1 (-x) (by omega)]
theorem tr_6 {z x : Int} (h1 : 1 ≤ x) (h2 : x ≤ 4) : tr_s z 6 x := ⟨Or.inr rfl, h1, h2⟩
theorem g_aloadO_n {k : Fin 4} {i q : Nat} {x : Int} (hd : decode M.2.1 pc = .ok (.aload_n k, 1)) (hi : (k : Nat) = i) (hk : L[q]? = some (i, 6, x)) (h : tH M d mc ms F (pc + 1) L ((6, x) :: S) μ nc ns) : tH M d mc ms F pc L S μ nc ns := by
  intro p l e R s m args below meth c D A sp ad0 z0 O ad ca H locs ls hg hR hS hL hT hl
  have k1 := h p l e R s m args below meth c D A sp ad0 z0 O ad ca H locs ls hg hR hS hL (ts_c (hL _ (List.mem_of_getElem? hk)) hT) hl
  have k2 := lv_at hl q (i := i) (v := te_v ad 6 x) (by rw [List.getElem?_map, hk]; rfl)
  exact lv_aload_n O.x O.b hd hi k2 k1
theorem g_ldcS (hd : decode M.2.1 pc = .ok (.ldc 62, 2)) (hM : M.1.cls = RX2) (h : tH M d mc ms F (pc + 2) L ((6, 2) :: S) μ nc ns) : tH M d mc ms F pc L S μ nc ns := by
  intro p l e R s m args below meth c D A sp ad0 z0 O ad ca H locs ls hg hR hS hL hT hl
  have k1 := h p l e R s m args below meth c D A sp ad0 z0 O ad ca H locs ls hg hR hS hL (ts_c (tr_6 (by decide) (by decide)) hT) hl
  have hown := O.own
  rw [hM] at hown
  refine va_ldcS O.x O.b hown O.B.kR hd ?_
  have e1 : (((6, 2) :: S).map fun q => te_v ad q.1 q.2) = .ref (sp (-2)) :: S.map fun q => te_v ad q.1 q.2 := by rw [← te_6 hg (by decide)]; rfl
  rw [← e1]
  exact k1
theorem g_getV {idx : Nat} (hd : decode M.2.1 pc = .ok (.getfield idx, 3)) (hq : Cond.fieldLink M.1.cls idx "java/lang/String" "value" "[B" ∈ lw_all) (h : tH M d mc ms F (pc + 3) L ((6, 3) :: S) μ nc ns) : tH M d mc ms F pc L ((6, 2) :: S) μ nc ns := by
  intro p l e R s m args below meth c D A sp ad0 z0 O ad ca H locs ls hg hR hS hL hT hl
  have k1 := h p l e R s m args below meth c D A sp ad0 z0 O ad ca H locs ls hg hR hS hL (ts_c (tr_6 (by decide) (by decide)) (ts_t hT)) hl
  have e0 : (((6, 2) :: S).map fun q => te_v ad q.1 q.2) = .ref (sp (-2)) :: S.map fun q => te_v ad q.1 q.2 := by rw [← te_6 hg (by decide)]; rfl
  have e1 : (((6, 3) :: S).map fun q => te_v ad q.1 q.2) = .ref (sp (-3)) :: S.map fun q => te_v ad q.1 q.2 := by rw [← te_6 hg (by decide)]; rfl
  rw [e1] at k1
  rw [e0]
  exact vk_getf O.x O.b O.B.kV hS O.own (O.ts _ hq) (fun _ q => q) hd k1
theorem g_getK {idx : Nat} (hd : decode M.2.1 pc = .ok (.getfield idx, 3)) (hq : Cond.fieldLink M.1.cls idx "java/lang/String" "coder" "B" ∈ lw_all) (h : tH M d mc ms F (pc + 3) L ((0, 0) :: S) μ nc ns) : tH M d mc ms F pc L ((6, 2) :: S) μ nc ns := by
  intro p l e R s m args below meth c D A sp ad0 z0 O ad ca H locs ls hg hR hS hL hT hl
  have k1 := h p l e R s m args below meth c D A sp ad0 z0 O ad ca H locs ls hg hR hS hL (ts_c (c_k0 _) (ts_t hT)) hl
  have e0 : (((6, 2) :: S).map fun q => te_v ad q.1 q.2) = .ref (sp (-2)) :: S.map fun q => te_v ad q.1 q.2 := by rw [← te_6 hg (by decide)]; rfl
  rw [e0]
  exact vk_getf O.x O.b O.B.kC hS O.own (O.ts _ hq) (fun _ q => q) hd k1
theorem g_gsZ {idx : Nat} (hd : decode M.2.1 pc = .ok (.getstatic idx, 3)) (hq : Cond.fieldLink M.1.cls idx "java/lang/String" "COMPACT_STRINGS" "Z" ∈ lw_all) (h : tH M d mc ms F (pc + 3) L ((0, 1) :: S) μ nc ns) : tH M d mc ms F pc L S μ nc ns := by
  intro p l e R s m args below meth c D A sp ad0 z0 O ad ca H locs ls hg hR hS hL hT hl
  have k1 := h p l e R s m args below meth c D A sp ad0 z0 O ad ca H locs ls hg hR hS hL (ts_c ⟨Or.inl (by decide), by show (-2147483648 : Int) ≤ 1 ∧ (1 : Int) ≤ 2147483647; omega⟩ hT) hl
  exact va_gets O.x O.b O.B.kZ hS O.own (O.ts _ hq) (fun _ q => q) hd k1
theorem g_gsF {idx : Nat} (hd : decode M.2.1 pc = .ok (.getstatic idx, 3)) (hq : Cond.fieldLink M.1.cls idx "jdk/internal/util/Preconditions" "SIOOBE_FORMATTER" "Ljava/util/function/BiFunction;" ∈ lw_all) (h0 : tH M d mc ms F (pc + 3) L ((2, 0) :: S) μ nc ns) (h4 : tH M d mc ms F (pc + 3) L ((6, 4) :: S) μ nc ns) : tH M d mc ms F pc L S μ nc ns := by
  intro p l e R s m args below meth c D A sp ad0 z0 O ad ca H locs ls hg hR hS hL hT hl
  have hz := hR.1.1
  refine va_gets O.x O.b O.B.kF hS O.own (O.ts _ hq) (fun _ q => q) hd ?_
  by_cases c5 : sp (-5) = 0
  · rw [if_pos c5]
    exact h0 p l e R s m args below meth c D A sp ad0 z0 O ad ca H locs ls hg hR hS hL (ts_c ⟨Or.inl (by decide), by show (0 : Int) ≤ 0 ∧ 0 < tm_z μ; omega⟩ hT) hl
  · rw [if_neg c5]
    have k1 := h4 p l e R s m args below meth c D A sp ad0 z0 O ad ca H locs ls hg hR hS hL (ts_c (tr_6 (by decide) (by decide)) hT) hl
    have e1 : (((6, 4) :: S).map fun q => te_v ad q.1 q.2) = .ref (sp (-4)) :: S.map fun q => te_v ad q.1 q.2 := by rw [← te_6 hg (by decide)]; rfl
    rw [e1] at k1
    exact k1
theorem g_alenK (hd : decode M.2.1 pc = .ok (.arraylength, 1)) (h : tH M d mc ms F (pc + 1) L ((0, 50) :: S) μ nc ns) : tH M d mc ms F pc L ((6, 3) :: S) μ nc ns := by
  intro p l e R s m args below meth c D A sp ad0 z0 O ad ca H locs ls hg hR hS hL hT hl
  have k1 := h p l e R s m args below meth c D A sp ad0 z0 O ad ca H locs ls hg hR hS hL (ts_c ⟨Or.inl (by decide), by show (-2147483648 : Int) ≤ 50 ∧ (50 : Int) ≤ 2147483647; omega⟩ (ts_t hT)) hl
  have e0 : (((6, 3) :: S).map fun q => te_v ad q.1 q.2) = .ref (sp (-3)) :: S.map fun q => te_v ad q.1 q.2 := by rw [← te_6 hg (by decide)]; rfl
  rw [e0]
  exact va_tlen O.x O.b O.B.kT hS (v := 50) rfl hd k1
theorem KC_in (i : Int) : 0 ≤ KC i ∧ KC i ≤ 127 := by
  have h : ∀ x ∈ KB, 0 ≤ x ∧ x ≤ 127 := by decide
  unfold KC
  rw [List.getD_eq_getElem?_getD]
  cases hq : KB[i.toNat]? with
  | none => exact ⟨by decide, by decide⟩
  | some x => exact h x (List.mem_of_getElem? hq)
theorem g_baldK {i : Int} (hd : decode M.2.1 pc = .ok (.baload, 1)) (h0 : 0 ≤ i) (h50 : i < 50) (h : tH M d mc ms F (pc + 1) L ((0, KC i) :: S) μ nc ns) : tH M d mc ms F pc L ((0, i) :: (6, 3) :: S) μ nc ns := by
  intro p l e R s m args below meth c D A sp ad0 z0 O ad ca H locs ls hg hR hS hL hT hl
  have ki := ts_h hT
  have hc := KC_in i
  have k1 := h p l e R s m args below meth c D A sp ad0 z0 O ad ca H locs ls hg hR hS hL (ts_c ⟨Or.inl (show (0 : Nat) < 3 by decide), by show (-2147483648 : Int) ≤ KC i ∧ KC i ≤ 2147483647; omega⟩ (ts_t (ts_t hT))) hl
  have e0 : (((0, i) :: (6, 3) :: S).map fun q => te_v ad q.1 q.2) = .int (Int32.ofInt i) :: .ref (sp (-3)) :: S.map fun q => te_v ad q.1 q.2 := by rw [← te_6 hg (by decide)]; rfl
  rw [e0]
  refine va_tb O.x O.b O.B.kT hS (i := Int32.ofInt i) (v := .int (Int32.ofInt (KC i))) ?_ ?_ hd k1
  · have := ti_in (n := 50) ki h0 h50
    exact this
  · rw [ti_cl ki h0]; rfl
theorem g_i2c {x : Int} (hd : decode M.2.1 pc = .ok (.i2c, 1)) (h0 : 0 ≤ x) (h1 : x ≤ 255) (h : tH M d mc ms F (pc + 1) L ((0, x) :: S) μ nc ns) : tH M d mc ms F pc L ((0, x) :: S) μ nc ns := by
  intro p l e R s m args below meth c D A sp ad0 z0 O ad ca H locs ls hg hR hS hL hT hl
  have k1 := h p l e R s m args below meth c D A sp ad0 z0 O ad ca H locs ls hg hR hS hL hT hl
  have kx := ts_h hT
  refine lv_i2c O.x O.b (x := Int32.ofInt x) (v := Int32.ofInt x) hd ?_ k1
  obtain ⟨n, rfl⟩ : ∃ n : Nat, x = (n : Int) := ⟨x.toNat, by omega⟩
  have hn : n ≤ 255 := by omega
  have key : ∀ n : Fin 256, ((Int32.ofInt ((n : Nat) : Int)).toUInt32 % 65536).toInt32 = Int32.ofInt ((n : Nat) : Int) := by decide +kernel
  exact key ⟨n, by omega⟩
theorem g_nret {Q : tQ} {x : Int} {ty : FieldType} (hd : decode M.2.1 pc = .ok (.ireturn, 1)) (hr : M.2.2.2.1 = some ty) (hx : narrow ty (.int (Int32.ofInt x)) = .int (Int32.ofInt x)) (h1 : nc ≤ mc) (h2 : ns ≤ ms) (h : Q (.inl (some (0, x))) μ) : tH M d mc ms (tq Q mc ms) pc L [(0, x)] μ nc ns := by
  intro p l e R s m args below meth c D A sp ad0 z0 O ad ca H locs ls hg hR hS hL hT hl
  have hlk := O.lk
  refine W.mono tq_of (W.widen h1 h2 ?_)
  exact W.zret O.x O.b (O.r.trans hr) hx (fun t ht hW => ⟨⟨.inl (some (0, x)), μ, ad, ca, hg, rfl, ts_h hT, by rw [ht]; exact hR.moved hW.alike, h⟩, hS.F ht⟩) hS.2.2 hd
/-- invokevirtual on the key words -/
theorem g_callK {M' : tM} {d' mc' ms' idx n : Nat} {as : tSt} (hd : decode M.2.1 pc = .ok (.invokevirtual idx, 3)) (K : tcal M') (hq1 : Cond.methodLink M.1.cls idx M'.1 ∈ lw_all) (hq2 : Cond.instanceMethod M'.1 ∈ lw_all) (hq3 : Cond.selects "java/lang/String" M'.1 M'.1 ∈ lw_all)
    (hn : (parseMethodDescriptor M'.1.desc).map (fun d => d.parameters.length) = some n) (has : as.length = n) (hdd : d' + 1 ≤ d) (hm1 : nc + mc' ≤ mc) (hm2 : ns + ms' ≤ ms) (hS8 : S.length ≤ 8)
    (hC : tC M' d' mc' ms' ((6, 2) :: as) μ (tk M d mc ms F pc L S (nc + mc') (ns + ms'))) : tH M d mc ms F pc L (as.reverse ++ (6, 2) :: S) μ nc ns := by
  intro p l e R s m args below meth c D A sp ad0 z0 O ad ca H locs ls hg hR hS hL hT hl X hX St
  have hTs : ∀ q ∈ S, tr_s (tm_z μ) q.1 q.2 := fun q h => hT q (List.mem_append_right _ (List.mem_cons_of_mem _ h))
  have hTas : ∀ q ∈ (6, 2) :: as, tr_s (tm_z μ) q.1 q.2 := fun q h => by
    rcases List.mem_cons.mp h with h | h
    · rw [h]; exact hT _ (List.mem_append_right _ List.mem_cons_self)
    · exact hT q (List.mem_append_left _ (List.mem_reverse.mpr h))
  refine t_call0 hC hdd K.2.2.1 hm1 hm2 hS8 hd K.1 K.2.1 O hg hR hS hL hTs hTas hl hX St ?_
  obtain ⟨cellB, hcB0, hoB, hclB, hnA⟩ := O.B.kO
  have hcB : H[sp (-2)]? = some cellB := by rw [hS.2.1 _ (Array.getElem?_eq_some_iff.mp hcB0).1 hnA]; exact hcB0
  obtain ⟨mk, methM, hnamed, hmethM, hstM, habM⟩ := Cond.instanceMethod_spec (O.ts _ hq2)
  obtain ⟨m9, methM', cM, hn9, hmethM', -, -, -, -, -, -, hsigM⟩ := tcw_spec (O.ts _ K.1)
  cases hnamed.symm.trans hn9
  cases hmethM.symm.trans hmethM'
  obtain ⟨c2, r2, m2, q1, q2, q3, q4, kP, hkP, hkPi⟩ := Cond.selects_spec (O.ts _ hq3)
  cases hclB.symm.trans q1
  cases (State.methodFound?_of_named hnamed K.2.2.2).symm.trans q2
  cases hnamed.symm.trans q3
  have hselP : selectMethod e.platform s.vm cellB.cls mk = .method mk := by rw [Launch.admits_selectMethod St.admits]; exact q4
  obtain ⟨vm₁, X₁, hstep₁⟩ := St.invokevirtual O.x O.own (O.ts _ hq1) hnamed hmethM hstM hkP hkPi K.2.2.2 (a := sp (-2)) (cell := cellB) (by rw [hX]; exact hcB)
    (fun z h => by rw [h] at hoB; cases hoB) hselP hmethM habM hkP hkPi (g := F0 m pc ls ((as.reverse ++ (6, 2) :: S).map fun q => te_v ad q.1 q.2)) rfl (argsL := as.map fun q => te_v ad q.1 q.2) (rest := S.map fun q => te_v ad q.1 q.2) (by rw [List.length_map, has]; exact tw_len (args := args) (s := s) hn hsigM) (by
      show (as.reverse ++ (6, 2) :: S).map _ = _
      rw [List.map_append, List.map_reverse, List.map_cons, te_6 hg (by decide)]) (by rw [O.b]; exact hd)
  refine ⟨vm₁, mk, X₁.warmed, X₁.named hnamed, fun target h => hstep₁ target fun acts => ?_⟩
  have e1 : (((6, 2) :: as).map fun q => te_v ad q.1 q.2).toArray = (Value.ref (sp (-2)) :: as.map fun q => te_v ad q.1 q.2).toArray := by
    rw [List.map_cons, te_6 hg (by decide)]
  have := h acts
  rw [e1] at this
  exact this
theorem g_tswI {dflt lo hi off x : Int} {offs : Array Int} {len tgt : Nat} (hd : decode M.2.1 pc = .ok (.tableswitch dflt lo hi offs, len)) (h1 : lo ≤ x) (h2 : x ≤ hi) (ho : offs[(x - lo).toNat]? = some off) (ht : (pc : Int) + off = (tgt : Int)) (h : tH M d mc ms F tgt L S μ nc ns) : tH M d mc ms F pc L ((0, x) :: S) μ nc ns := by
  intro p l e R s m args below meth c D A sp ad0 z0 O ad ca H locs ls hg hR hS hL hT hl
  have kx := ts_h hT
  exact lv_tableIn O.x O.b (x := Int32.ofInt x) hd (by rw [tr_it kx]; omega) (by rw [tr_it kx]; omega) (by rw [tr_it kx]; exact ho) ht (h p l e R s m args below meth c D A sp ad0 z0 O ad ca H locs ls hg hR hS hL (ts_t hT) hl)
theorem g_tswO {dflt lo hi x : Int} {offs : Array Int} {len tgt : Nat} (hd : decode M.2.1 pc = .ok (.tableswitch dflt lo hi offs, len)) (h1 : x < lo ∨ hi < x) (ht : (pc : Int) + dflt = (tgt : Int)) (h : tH M d mc ms F tgt L S μ nc ns) : tH M d mc ms F pc L ((0, x) :: S) μ nc ns := by
  intro p l e R s m args below meth c D A sp ad0 z0 O ad ca H locs ls hg hR hS hL hT hl
  have kx := ts_h hT
  exact lv_tableOut O.x O.b (x := Int32.ofInt x) hd (by rw [tr_it kx]; omega) ht (h p l e R s m args below meth c D A sp ad0 z0 O ad ca H locs ls hg hR hS hL (ts_t hT) hl)
theorem t_athrow {p : Program} {l : Launch} {e : Env} {R : Room} {s : State} {m : MethodId} {args : Array Value} {below : List Frame} {meth : Method} {c : Code} {T : State} {locs : List Loc} {cells slots : Nat} (X : Stand p l e R s m args below meth c T locs cells slots) (hexec : p.tables.exec = Jvm.exec) {g : JFrame} (hg : g.method = m)
    {a : Nat} {rest : List Value} (hstack : g.stack = .ref a :: rest) (hdg : decode c.code g.pc = .ok (.athrow, 1)) : ∀ target, Steps p.tables e below ((T.setTop { g with stack := rest }).pushFrame (.throwing a)) target → Steps p.tables e below (T.setTop g) target := by
  intro target hrest
  subst hg
  jvm_step X.here [hexec, hdg, athrow.wp_sem, hstack]
  exact hrest
theorem g_athrow {a : Int} {k : Nat} (hd : decode M.2.1 pc = .ok (.athrow, 1)) (h1 : 1 ≤ a) (hk : tm_k μ a = k) (h : tT M d mc ms F pc L a μ nc ns) : tH M d mc ms F pc L ((2, a) :: S) μ nc ns := by
  intro p l e R s m args below meth c D A sp ad0 z0 O ad ca H locs ls hg hR hS hL hT hl T hH X
  have ka := tr_r (ts_h hT)
  obtain ⟨t, k1, k2⟩ := h p l e R s m args below meth c D A sp ad0 z0 O ad ca H locs ls (S.map fun q => te_v ad q.1 q.2) hg hR hS hL h1 ka.2 hl T hH X
  have e0 : (((2, a) :: S).map fun q => te_v ad q.1 q.2) = .ref (ad a) :: S.map fun q => te_v ad q.1 q.2 := by rw [← va_rfr ad h1]; rfl
  rw [e0]
  have hdc : decode c.code (F0 m pc ls (.ref (ad a) :: S.map fun q => te_v ad q.1 q.2)).pc = .ok (.athrow, 1) := by rw [O.b]; exact hd
  exact ⟨t, t_athrow X O.x (g := F0 m pc ls (.ref (ad a) :: S.map fun q => te_v ad q.1 q.2)) rfl rfl hdc t k1, k2⟩
end KRULES
