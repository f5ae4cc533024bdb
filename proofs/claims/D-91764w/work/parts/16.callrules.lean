/-! RULES of calls -/
/-- an exception on its way at pc: the method comes to its end F -/
def tT (M : tM) (d mc ms : Nat) (F : tF) (pc : Nat) (L : tLs) (a : Int) (μ : tm_M) (nc ns : Nat) : Prop :=
  ∀ (p : Program) (l : Launch) (e : Env) (R : Room) (s : State) (m : MethodId) (args : Array Value) (below : List Frame) (meth : Method) (c : Code) (D : va_G) (A : Nat → Prop) (sp ad0 : Int → Nat) (z0 : Int),
    tO p l e R s m args meth c D A sp M d mc ms →
    ∀ (ad : Int → Nat) (ca : Int → ClassId) (H : Heap) (locs : List Loc) (ls : Array Slot) (st : List Value),
      tg sp ad0 z0 ad μ → tR D A s ad ca μ H → va_S A s.heap H locs → (∀ q ∈ L, tr_s (tm_z μ) q.2.1 q.2.2) → 1 ≤ a → a < tm_z μ → lv_has ls M.2.2.1 (L.map fun q => (q.1, te_v ad q.2.1 q.2.2)) →
      ∀ T : State, T.heap = H → Stand p l e R s m args below meth c T locs nc ns → ∃ t, Steps p.tables e below ((T.setTop (F0 m pc ls st)).pushFrame (.throwing (ad a))) t ∧ F below D A sp args s ad0 z0 t
/-- behind a call -/
def tk (M : tM) (d mc ms : Nat) (F : tF) (pc : Nat) (L : tLs) (S : tSt) (nc ns : Nat) : tQ := fun o μ' => match o with
  | .inl none => tH M d mc ms F (pc + 3) L S μ' nc ns
  | .inl (some v) => tH M d mc ms F (pc + 3) L (v :: S) μ' nc ns
  | .inr a => tT M d mc ms F pc L a μ' nc ns
theorem tsum (ad : Int → Nat) : ∀ (S : tSt), (((S.map fun q => te_v ad q.1 q.2).map fun v => v.category).sum) ≤ 2 * S.length
  | [] => by simp
  | q :: t => by
    have := tsum ad t
    rcases lv_cat (te_v ad q.1 q.2) with w | w <;> simp only [List.map_cons, List.sum_cons, List.length_cons, w] <;> omega
theorem t_map {ad ad' : Int → Nat} {z : Int} (hz : 0 ≤ z) (h : ∀ a, a < z → ad' a = ad a) {S : tSt} (hS : ∀ q ∈ S, tr_s z q.1 q.2) : (S.map fun q => te_v ad' q.1 q.2) = S.map fun q => te_v ad q.1 q.2 := List.map_congr_left fun q hq => te_v_moved hz h (hS q hq).2
theorem t_mapL {ad ad' : Int → Nat} {z : Int} (hz : 0 ≤ z) (h : ∀ a, a < z → ad' a = ad a) {L : tLs} (hL : ∀ q ∈ L, tr_s z q.2.1 q.2.2) : (L.map fun q => (q.1, te_v ad' q.2.1 q.2.2)) = L.map fun q => (q.1, te_v ad q.2.1 q.2.2) := List.map_congr_left fun q hq => by rw [te_v_moved hz h (hL q hq).2]
/-- the instruction at T.setTop g is a call of y with av, over the stack 'rest' -/
def tVk (p : Program) (e : Env) (s : State) (below : List Frame) (T : State) (g g2 : JFrame) (y : MethodName) (av : Array Value) : Prop :=
  ∃ (vm₁ : Vm) (mk : MethodId), s.WarmedH vm₁ ∧ (T.setVm vm₁).methodNamed? y = some mk ∧ ∀ target, (∀ acts, Steps p.tables e below (doInvoke e ((T.setVm vm₁).setTop g2) acts mk av).1 target) → Steps p.tables e below (T.setTop g) target
section CALL
variable {M : tM} {d mc ms : Nat} {F : tF} {pc : Nat} {L : tLs} {S : tSt} {μ : tm_M} {nc ns : Nat}
theorem t_call0 {M' : tM} {d' mc' ms' : Nat} {as : tSt} {ig : Instr} (hC : tC M' d' mc' ms' as μ (tk M d mc ms F pc L S (nc + mc') (ns + ms'))) (hd : d' + 1 ≤ d) (hml : M'.2.2.1 ≤ 30) (h1 : nc + mc' ≤ mc) (h2 : ns + ms' ≤ ms) (hS8 : S.length ≤ 8) (hdec : decode M.2.1 pc = .ok (ig, 3))
    (hq : tcw M' ∈ lw_all) (hq2 : Cond.initialized M'.1.cls ∈ lw_all)
    {p : Program} {l : Launch} {e : Env} {R : Room} {s : State} {m : MethodId} {args : Array Value} {below : List Frame} {meth : Method} {c : Code} {D : va_G} {A : Nat → Prop} {sp ad0 : Int → Nat} {z0 : Int} (O : tO p l e R s m args meth c D A sp M d mc ms)
    {ad : Int → Nat} {ca : Int → ClassId} {H : Heap} {locs : List Loc} {ls : Array Slot} (hg : tg sp ad0 z0 ad μ) (hR : tR D A s ad ca μ H) (hS : va_S A s.heap H locs) (hL : ∀ q ∈ L, tr_s (tm_z μ) q.2.1 q.2.2) (hT : ∀ q ∈ S, tr_s (tm_z μ) q.1 q.2) (hTa : ∀ q ∈ as, tr_s (tm_z μ) q.1 q.2) (hl : lv_has ls M.2.2.1 (L.map fun q => (q.1, te_v ad q.2.1 q.2.2)))
    {T : State} (hH : T.heap = H) (X : Stand p l e R s m args below meth c T locs nc ns) {g : JFrame} (hv : tVk p e s below T g (F0 m pc ls (S.map fun q => te_v ad q.1 q.2)) M'.1 ((as.map fun q => te_v ad q.1 q.2).toArray)) :
    ∃ t, Steps p.tables e below (T.setTop g) t ∧ F below D A sp args s ad0 z0 t := by
  obtain ⟨vm₁, mk, hW₁, hn, hstep⟩ := hv
  have X₁ := X.noted hW₁
  have hrm := O.rm
  have hz := hR.1.1
  obtain ⟨o, t, L', hQ, hL', hWt, X', hret, hthr⟩ := tback (hC l D A sp ad ca O.fl) X₁ (g := F0 m pc ls (S.map fun q => te_v ad q.1 q.2)) rfl (by rw [O.ml]; exact hl.1) (by rw [O.b]; exact hdec)
    (by have := tsum ad S; show 2 * 0 + ((S.map fun q => te_v ad q.1 q.2).map fun v => v.category).sum ≤ 20; omega) hn (a := (as.map fun q => te_v ad q.1 q.2).toArray) (by omega) (by omega) (by omega) (by omega)
    (fun w hw a' => by
      have hwa : w ∈ lw_all := by
        rcases List.mem_cons.mp hw with e1 | e1
        · rw [e1]; exact hq
        · exact e1
      exact word_at (U := T.setVm vm₁) hW₁ (lw_self w hwa).2 (O.ts w hwa))
    (fun a' => word_at (U := T.setVm vm₁) hW₁ (lw_self _ hq2).2 (O.ts _ hq2))
    (tPc.blind (U := T.setVm vm₁) ⟨rfl, O.B.later (U := T.setVm vm₁) hW₁ (by show _ ≤ T.heap.size; rw [hH]; exact hS.1) (fun q h3 h4 => by show T.heap[q]? = _; rw [hH]; exact hS.2.1 q h3 h4), by
      have := hR.moved (U := T.setVm vm₁) hW₁.alike
      show tR D A (T.setVm vm₁) ad ca μ T.heap
      rw [hH]
      exact this, hTa, hg.1⟩ _ _)
  obtain ⟨⟨oA, μ', ad', ca', tg1, he, hok, hR', hk⟩, hF⟩ := hQ
  have hsW : s.WarmedH t.vm := State.WarmedH.trans (t := T.setVm vm₁) hW₁ hWt
  have hzz : tm_z μ ≤ tm_z μ' := tg1.2.2.1
  have hg' : tg sp ad0 z0 ad' μ' := ⟨tg1.1, fun a ha => (tg1.2.1 a (by have := hg.2.2.1; omega)).trans (hg.2.1 a ha), by have := hg.2.2.1; omega, hg.2.2.2⟩
  have hRs : tR D A s ad' ca' μ' t.heap := hR'.moved hsW.alike.symm
  have hS' : va_S A s.heap t.heap (locs ++ L') := by
    have f1 : H.size ≤ t.heap.size := by rw [← hH]; exact hF.1
    refine ⟨Nat.le_trans hS.1 f1, fun q h3 h4 => ?_, fun q hq => ?_⟩
    · have f2 : t.heap[q]? = T.heap[q]? := hF.2 q (show q < T.heap.size by rw [hH]; exact Nat.lt_of_lt_of_le h3 hS.1) h4
      rw [f2, hH]
      exact hS.2.1 q h3 h4
    · rcases List.mem_append.mp hq with h | h
      · exact hS.2.2 q h
      · exact hL' q h
  have hL2 : ∀ q ∈ L, tr_s (tm_z μ') q.2.1 q.2.2 := fun q h => tr_sup hzz (hL q h)
  have hT2 : ∀ q ∈ S, tr_s (tm_z μ') q.1 q.2 := fun q h => tr_sup hzz (hT q h)
  have hl2 : lv_has ls M.2.2.1 (L.map fun q => (q.1, te_v ad' q.2.1 q.2.2)) := by rw [t_mapL (by omega) tg1.2.1 hL]; exact hl
  have hS2 : (S.map fun q => te_v ad' q.1 q.2) = S.map fun q => te_v ad q.1 q.2 := t_map (by omega) tg1.2.1 hT
  cases oA with
  | inl r =>
    cases r with
    | none =>
      have k1 := hk p l e R s m args below meth c D A sp ad0 z0 O ad' ca' t.heap (locs ++ L') ls hg' hRs hS' hL2 hT2 hl2
      rw [hS2] at k1
      obtain ⟨t', st', hF'⟩ := k1 (({ (T.setVm vm₁) with heap := t.heap, slotsUsed := t.slotsUsed } : State).setVm t.vm) rfl X'
      exact ⟨t', hstep _ fun acts => by rw [doInvoke_state]; exact (hret none he).trans st', hF'⟩
    | some v =>
      have k1 := hk p l e R s m args below meth c D A sp ad0 z0 O ad' ca' t.heap (locs ++ L') ls hg' hRs hS' hL2 (ts_c hok hT2) hl2
      have e1 : ((v :: S).map fun q => te_v ad' q.1 q.2) = te_v ad' v.1 v.2 :: S.map fun q => te_v ad q.1 q.2 := by rw [← hS2]; rfl
      rw [e1] at k1
      obtain ⟨t', st', hF'⟩ := k1 (({ (T.setVm vm₁) with heap := t.heap, slotsUsed := t.slotsUsed } : State).setVm t.vm) rfl X'
      exact ⟨t', hstep _ fun acts => by rw [doInvoke_state]; exact (hret (some (te_v ad' v.1 v.2)) he).trans st', hF'⟩
  | inr x =>
    obtain ⟨t', st', hF'⟩ := hk p l e R s m args below meth c D A sp ad0 z0 O ad' ca' t.heap (locs ++ L') ls (S.map fun q => te_v ad q.1 q.2) hg' hRs hS' hL2 hok.1 hok.2 hl2 (({ (T.setVm vm₁) with heap := t.heap, slotsUsed := t.slotsUsed } : State).setVm t.vm) rfl X'
    exact ⟨t', hstep _ fun acts => by rw [doInvoke_state]; exact (hthr _ he).trans st', hF'⟩
/-- what is told of a callee: its word, its class -/
def tcal (M' : tM) : Prop := tcw M' ∈ lw_all ∧ Cond.initialized M'.1.cls ∈ lw_all ∧ M'.2.2.1 ≤ 30 ∧ (M'.1.cls ≠ "java/lang/invoke/MethodHandle" ∧ M'.1.cls ≠ "java/lang/invoke/VarHandle")
theorem tw_len {M' : tM} {args : Array Value} {s : State} {n : Nat} (hn : (parseMethodDescriptor M'.1.desc).map (fun d => d.parameters.length) = some n) {sig : MethodDescriptor} (h : parseMethodDescriptor M'.1.desc = some sig) : n = sig.parameters.length := by
  rw [h] at hn
  exact (Option.some.inj hn).symm
theorem t_cls {p : Program} {l : Launch} {e : Env} {R : Room} {s : State} {m : MethodId} {args : Array Value} {meth : Method} {c : Code} {D : va_G} {A : Nat → Prop} {sp : Int → Nat} (O : tO p l e R s m args meth c D A sp M d mc ms) {ad : Int → Nat} {ca : Int → ClassId} {H : Heap} (hR : tR D A s ad ca μ H) {a : Int} (h1 : 1 ≤ a) (h2 : a < tm_z μ) {ci : Nat} {C : String} {T : u_T} {N : Nat} (hc : tc_cl[ci]? = some (C, T, N)) (hci : ci < 20) (hk : tm_k μ a = ci) : ∃ cell : Cell, H[ad a]? = some cell ∧ cell.vm.isStatics = false ∧ s.vm.findClass C = some cell.cls :=
  va_recv O.K hR.2.1 (ci := ci) (q0 := (a - 1).toNat) hc (by rw [te_w_at ad ca μ h1 h2, te_eo hk hci])
/-- invokevirtual of a method of the receiver's own class -/
theorem g_callV {M' : tM} {d' mc' ms' idx ci n : Nat} {C : String} {T : u_T} {N : Nat} {a : Int} {as : tSt} (hd : decode M.2.1 pc = .ok (.invokevirtual idx, 3)) (K : tcal M') (hq1 : Cond.methodLink M.1.cls idx M'.1 ∈ lw_all) (hq2 : Cond.instanceMethod M'.1 ∈ lw_all) (hq3 : Cond.selects C M'.1 M'.1 ∈ lw_all) (hc : tc_cl[ci]? = some (C, T, N)) (hci : ci < 20)
    (hn : (parseMethodDescriptor M'.1.desc).map (fun d => d.parameters.length) = some n) (has : as.length = n) (hdd : d' + 1 ≤ d) (h1 : 1 ≤ a) (hk : tm_k μ a = ci) (hm1 : nc + mc' ≤ mc) (hm2 : ns + ms' ≤ ms) (hS8 : S.length ≤ 8)
    (hC : tC M' d' mc' ms' ((2, a) :: as) μ (tk M d mc ms F pc L S (nc + mc') (ns + ms'))) : tH M d mc ms F pc L (as.reverse ++ (2, a) :: S) μ nc ns := by
  intro p l e R s m args below meth c D A sp ad0 z0 O ad ca H locs ls hg hR hS hL hT hl X hX St
  have hTs : ∀ q ∈ S, tr_s (tm_z μ) q.1 q.2 := fun q h => hT q (List.mem_append_right _ (List.mem_cons_of_mem _ h))
  have hTas : ∀ q ∈ (2, a) :: as, tr_s (tm_z μ) q.1 q.2 := fun q h => by
    rcases List.mem_cons.mp h with h | h
    · rw [h]; exact hT _ (List.mem_append_right _ List.mem_cons_self)
    · exact hT q (List.mem_append_left _ (List.mem_reverse.mpr h))
  refine t_call0 hC hdd K.2.2.1 hm1 hm2 hS8 hd K.1 K.2.1 O hg hR hS hL hTs hTas hl hX St ?_
  obtain ⟨cellB, hcB, hoB, hclB⟩ := t_cls O hR h1 (tr_r (hTas _ List.mem_cons_self)).2 hc hci hk
  obtain ⟨mk, methM, hnamed, hmethM, hstM, habM⟩ := Cond.instanceMethod_spec (O.ts _ hq2)
  obtain ⟨m9, methM', cM, hn9, hmethM', -, -, -, -, -, -, hsigM⟩ := tcw_spec (O.ts _ K.1)
  cases hnamed.symm.trans hn9
  cases hmethM.symm.trans hmethM'
  obtain ⟨c2, r2, m2, q1, q2, q3, q4, kP, hkP, hkPi⟩ := Cond.selects_spec (O.ts _ hq3)
  cases hclB.symm.trans q1
  cases (State.methodFound?_of_named hnamed K.2.2.2).symm.trans q2
  cases hnamed.symm.trans q3
  have hselP : selectMethod e.platform s.vm cellB.cls mk = .method mk := by rw [Launch.admits_selectMethod St.admits]; exact q4
  obtain ⟨vm₁, X₁, hstep₁⟩ := St.invokevirtual O.x O.own (O.ts _ hq1) hnamed hmethM hstM hkP hkPi K.2.2.2 (a := ad a) (cell := cellB) (by rw [hX]; exact hcB)
    (fun z h => by rw [h] at hoB; cases hoB) hselP hmethM habM hkP hkPi (g := F0 m pc ls ((as.reverse ++ (2, a) :: S).map fun q => te_v ad q.1 q.2)) rfl (argsL := as.map fun q => te_v ad q.1 q.2) (rest := S.map fun q => te_v ad q.1 q.2) (by rw [List.length_map, has]; exact tw_len (args := args) (s := s) hn hsigM) (by
      show (as.reverse ++ (2, a) :: S).map _ = _
      rw [List.map_append, List.map_reverse, List.map_cons]
      show _ ++ va_rf (te_r ad a) :: _ = _
      rw [va_rfr ad h1]) (by rw [O.b]; exact hd)
  refine ⟨vm₁, mk, X₁.warmed, X₁.named hnamed, fun target h => hstep₁ target fun acts => ?_⟩
  have e1 : (((2, a) :: as).map fun q => te_v ad q.1 q.2).toArray = (Value.ref (ad a) :: as.map fun q => te_v ad q.1 q.2).toArray := by
    rw [List.map_cons]
    show (va_rf (te_r ad a) :: _).toArray = _
    rw [va_rfr ad h1]
  have := h acts
  rw [e1] at this
  exact this
/-- invokestatic -/
theorem g_callS {M' : tM} {d' mc' ms' idx n : Nat} {as : tSt} (hd : decode M.2.1 pc = .ok (.invokestatic idx, 3)) (K : tcal M') (hq1 : Cond.methodLink M.1.cls idx M'.1 ∈ lw_all) (hq2 : Cond.static M'.1 ∈ lw_all)
    (hn : (parseMethodDescriptor M'.1.desc).map (fun d => d.parameters.length) = some n) (has : as.length = n) (hdd : d' + 1 ≤ d) (hm1 : nc + mc' ≤ mc) (hm2 : ns + ms' ≤ ms) (hS8 : S.length ≤ 8)
    (hC : tC M' d' mc' ms' as μ (tk M d mc ms F pc L S (nc + mc') (ns + ms'))) : tH M d mc ms F pc L (as.reverse ++ S) μ nc ns := by
  intro p l e R s m args below meth c D A sp ad0 z0 O ad ca H locs ls hg hR hS hL hT hl X hX St
  have hTs : ∀ q ∈ S, tr_s (tm_z μ) q.1 q.2 := fun q h => hT q (List.mem_append_right _ h)
  have hTas : ∀ q ∈ as, tr_s (tm_z μ) q.1 q.2 := fun q h => hT q (List.mem_append_left _ (List.mem_reverse.mpr h))
  refine t_call0 hC hdd K.2.2.1 hm1 hm2 hS8 hd K.1 K.2.1 O hg hR hS hL hTs hTas hl hX St ?_
  obtain ⟨mk, methM, cM, hnamed, hmethM, -, -, -, -, -, -, hsigM⟩ := tcw_spec (O.ts _ K.1)
  have hstatic : methM.isStatic = true := Cond.static_spec hnamed hmethM (O.ts _ hq2)
  obtain ⟨kP, hkP, -⟩ := className_of_methodNamed hnamed
  have hinitP : kP.init = .initialized := Cond.initialized_spec (findClass_of_methodNamed hnamed) hkP (O.ts _ K.2.1)
  obtain ⟨vm₁, X₁, hstep₁⟩ := St.invokestatic O.x O.own (O.ts _ hq1) hnamed hmethM hstatic hkP hinitP K.2.2.2 (g := F0 m pc ls ((as.reverse ++ S).map fun q => te_v ad q.1 q.2)) rfl (argsL := as.map fun q => te_v ad q.1 q.2) (rest := S.map fun q => te_v ad q.1 q.2) (by rw [List.length_map, has]; exact tw_len (args := args) (s := s) hn hsigM) (by
      show (as.reverse ++ S).map _ = _
      rw [List.map_append, List.map_reverse]) (by rw [O.b]; exact hd)
  exact ⟨vm₁, mk, X₁.warmed, X₁.named hnamed, fun target h => hstep₁ target h⟩
/-- invokespecial of a maker -/
theorem g_callI {M' : tM} {d' mc' ms' idx n : Nat} {a : Int} {as : tSt} (hd : decode M.2.1 pc = .ok (.invokespecial idx, 3)) (K : tcal M') (hname : M'.1.name = "<init>") (hhh : M'.2.2.2.2 = []) (hret : M'.2.2.2.1 = none) (hq1 : Cond.methodLink M.1.cls idx M'.1 ∈ lw_all) (hq2 : Cond.instanceMethod M'.1 ∈ lw_all)
    (hn : (parseMethodDescriptor M'.1.desc).map (fun d => d.parameters.length) = some n) (has : as.length = n) (hdd : d' + 1 ≤ d) (h1 : 1 ≤ a) (hm1 : nc + mc' ≤ mc) (hm2 : ns + ms' ≤ ms) (hS8 : S.length ≤ 8)
    (hC : tC M' d' mc' ms' ((2, a) :: as) μ (tk M d mc ms F pc L S (nc + mc') (ns + ms'))) : tH M d mc ms F pc L (as.reverse ++ (2, a) :: S) μ nc ns := by
  intro p l e R s m args below meth c D A sp ad0 z0 O ad ca H locs ls hg hR hS hL hT hl X hX St
  have hTs : ∀ q ∈ S, tr_s (tm_z μ) q.1 q.2 := fun q h => hT q (List.mem_append_right _ (List.mem_cons_of_mem _ h))
  have hTas : ∀ q ∈ (2, a) :: as, tr_s (tm_z μ) q.1 q.2 := fun q h => by
    rcases List.mem_cons.mp h with h | h
    · rw [h]; exact hT _ (List.mem_append_right _ List.mem_cons_self)
    · exact hT q (List.mem_append_left _ (List.mem_reverse.mpr h))
  refine t_call0 hC hdd K.2.2.1 hm1 hm2 hS8 hd K.1 K.2.1 O hg hR hS hL hTs hTas hl hX St ?_
  have hpl : e.platform.magicAccessors = ({} : Platform).magicAccessors := by rw [St.admits.platform]
  have hcode : (Cond.code M'.1 M'.2.1 M'.2.2.1 none).before args s = true := by
    have := O.ts _ K.1
    unfold tcw at this
    rw [hhh, hret] at this
    exact this
  obtain ⟨mk, methM, cM, kP, vm₁, hnamed, hmethM, hcodeM, -, hlocalsM, -, hkP, -, hW₁, hstep₁⟩ := Steps.initColdArgs (e := e) St.here O.x St.warmed hpl O.own hname K.2.2.2 (O.ts _ hq1) (O.ts _ hq2) hcode (f := F0 m pc ls ((as.reverse ++ (2, a) :: S).map fun q => te_v ad q.1 q.2)) rfl (argsL := as.map fun q => te_v ad q.1 q.2) (a := ad a) (rest := S.map fun q => te_v ad q.1 q.2) (fun sig h => by rw [List.length_map, has]; exact tw_len (args := args) (s := s) hn h) (by
      show (as.reverse ++ (2, a) :: S).map _ = _
      rw [List.map_append, List.map_reverse, List.map_cons]
      show _ ++ va_rf (te_r ad a) :: _ = _
      rw [va_rfr ad h1]) (by rw [O.b]; exact hd)
  have X₁ := St.noted hW₁
  refine ⟨vm₁, mk, hW₁, X₁.named hnamed, fun target h => hstep₁ target fun acts => ?_⟩
  have e1 : (((2, a) :: as).map fun q => te_v ad q.1 q.2).toArray = (Value.ref (ad a) :: as.map fun q => te_v ad q.1 q.2).toArray := by
    rw [List.map_cons]
    show (va_rf (te_r ad a) :: _).toArray = _
    rw [va_rfr ad h1]
  have := h acts
  rw [e1] at this
  exact this
end CALL
