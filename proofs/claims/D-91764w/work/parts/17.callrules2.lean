/-! RULES of calls: nest mates' makers, inherited and overridden methods, super -/
/-- a word of the Statement's start that warmer tables keep -/
theorem tO.D {p : Program} {l : Launch} {e : Env} {R : Room} {s : State} {m : MethodId} {args : Array Value} {meth : Method} {c : Code} {D : va_G} {A : Nat → Prop} {sp : Int → Nat} {M : tM} {d mc ms : Nat} (h : tO p l e R s m args meth c D A sp M d mc ms) {w : Cond} (hw : w ∈ flatC (Jvm.Cond.and given_1 narrow_1)) (hg : goodWord w = true) : w.before args s = true := by
  obtain ⟨s0, b, -, hn, -, -, hW, -⟩ := h.B
  exact word_at hW (good_of_word hg) (flat_of_before _ hn w hw)
/-- a word of the tables, or of the Statement's start -/
def tw_any (w : Cond) : Prop := w ∈ lw_all ∨ (w ∈ flatC (Jvm.Cond.and given_1 narrow_1) ∧ goodWord w = true)
theorem tO.any {p : Program} {l : Launch} {e : Env} {R : Room} {s : State} {m : MethodId} {args : Array Value} {meth : Method} {c : Code} {D : va_G} {A : Nat → Prop} {sp : Int → Nat} {M : tM} {d mc ms : Nat} (h : tO p l e R s m args meth c D A sp M d mc ms) {w : Cond} (hw : tw_any w) : w.before args s = true := by
  rcases hw with q | ⟨q1, q2⟩
  · exact h.ts _ q
  · exact h.D q1 q2
theorem t_sub {vm : Vm} {c p : ClassId} {k : Class} (hk : vm.classes[c]? = some k) (hs : k.super = some p) : vm.isSubclass c p = true := by
  have h0 : 0 < vm.classes.size := Nat.lt_of_le_of_lt (Nat.zero_le _) (Array.getElem?_eq_some_iff.mp hk).1
  obtain ⟨n, hn⟩ : ∃ n, vm.classes.size = n + 1 := ⟨vm.classes.size - 1, by omega⟩
  unfold Vm.isSubclass
  rw [hn]
  simp [Vm.isSubclassAux, hk, hs]
section CALL2
variable {M : tM} {d mc ms : Nat} {F : tF} {pc : Nat} {L : tLs} {S : tSt} {μ : tm_M} {nc ns : Nat}
/-- invokespecial of a nest mate's maker -/
theorem g_callIN {M' : tM} {d' mc' ms' idx n : Nat} {host : String} {a : Int} {as : tSt} (hd : decode M.2.1 pc = .ok (.invokespecial idx, 3)) (K : tcal M') (hname : M'.1.name = "<init>") (hhh : M'.2.2.2.2 = []) (hret : M'.2.2.2.1 = none) (hq1 : Cond.methodLinkNest M.1.cls idx M'.1 host ∈ lw_tbl) (hq2 : Cond.instanceMethod M'.1 ∈ lw_all)
    (hn : (parseMethodDescriptor M'.1.desc).map (fun d => d.parameters.length) = some n) (has : as.length = n) (hdd : d' + 1 ≤ d) (h1 : 1 ≤ a) (hm1 : nc + mc' ≤ mc) (hm2 : ns + ms' ≤ ms) (hS8 : S.length ≤ 8)
    (hC : tC M' d' mc' ms' ((2, a) :: as) μ (tk M d mc ms F pc L S (nc + mc') (ns + ms'))) : tH M d mc ms F pc L (as.reverse ++ (2, a) :: S) μ nc ns := by
  intro p l e R s m args below meth c D A sp ad0 z0 O ad ca H locs ls hg hR hS hL hT hl X hX St
  have hTs : ∀ q ∈ S, tr_s (tm_z μ) q.1 q.2 := fun q h => hT q (List.mem_append_right _ (List.mem_cons_of_mem _ h))
  have hTas : ∀ q ∈ (2, a) :: as, tr_s (tm_z μ) q.1 q.2 := fun q h => by
    rcases List.mem_cons.mp h with h | h
    · rw [h]; exact hT _ (List.mem_append_right _ List.mem_cons_self)
    · exact hT q (List.mem_append_left _ (List.mem_reverse.mpr h))
  refine t_call0 hC hdd K.2.2.1 hm1 hm2 hS8 hd K.1 K.2.1 O hg hR hS hL hTs hTas hl hX St ?_
  have hpl : e.platform.magicAccessors = ({} : Platform).magicAccessors := by rw [St.admits.platform]
  have hcode : (Cond.code M'.1 M'.2.1 M'.2.2.1 none).before args s = true := by
    have := O.ts _ K.1
    unfold tcw at this
    rw [hhh, hret] at this
    exact this
  obtain ⟨mk, methM, cM, kP, vm₁, hnamed, hmethM, hcodeM, -, hlocalsM, -, hkP, -, hW₁, hstep₁⟩ := Steps.initColdArgsNest (e := e) St.here O.x St.warmed hpl O.own hname K.2.2.2 (O.N hq1 rfl (fun _ _ w z => va_Nw.warmM w z)) (O.ts _ hq2) hcode (f := F0 m pc ls ((as.reverse ++ (2, a) :: S).map fun q => te_v ad q.1 q.2)) rfl (argsL := as.map fun q => te_v ad q.1 q.2) (a := ad a) (rest := S.map fun q => te_v ad q.1 q.2) (fun sig h => by rw [List.length_map, has]; exact tw_len (args := args) (s := s) hn h) (by
      show (as.reverse ++ (2, a) :: S).map _ = _
      rw [List.map_append, List.map_reverse, List.map_cons]
      show _ ++ va_rf (te_r ad a) :: _ = _
      rw [va_rfr ad h1]) (by rw [O.b]; exact hd)
  have X₁ := St.noted hW₁
  refine ⟨vm₁, mk, hW₁, X₁.named hnamed, fun target h => hstep₁ target fun acts => ?_⟩
  have e1 : (((2, a) :: as).map fun q => te_v ad q.1 q.2).toArray = (Value.ref (ad a) :: as.map fun q => te_v ad q.1 q.2).toArray := by
    rw [List.map_cons]
    show (va_rf (te_r ad a) :: _).toArray = _
    rw [va_rfr ad h1]
  have := h acts
  rw [e1] at this
  exact this
/-- invokevirtual of x, which is ow's method, and by the receiver's class C the method M' -/
theorem g_callU {M' : tM} {d' mc' ms' idx ci n : Nat} {x : MethodName} {ow C : String} {T : u_T} {N : Nat} {a : Int} {as : tSt} (hd : decode M.2.1 pc = .ok (.invokevirtual idx, 3)) (K : tcal M') (hq1 : tw_any (Cond.methodLink M.1.cls idx x)) (hq2 : tw_any (Cond.sameMethod x.cls ow x.name x.desc)) (hq3 : Cond.selects C ⟨ow, x.name, x.desc⟩ M'.1 ∈ lw_all) (hq4 : Cond.instanceMethod M'.1 ∈ lw_all) (hq5 : Cond.declares ⟨ow, x.name, x.desc⟩ ∈ lw_tbl) (how : ow ≠ "java/lang/invoke/MethodHandle" ∧ ow ≠ "java/lang/invoke/VarHandle") (hc : tc_cl[ci]? = some (C, T, N)) (hci : ci < 20)
    (hn : (parseMethodDescriptor x.desc).map (fun d => d.parameters.length) = some n) (has : as.length = n) (hdd : d' + 1 ≤ d) (h1 : 1 ≤ a) (hk : tm_k μ a = ci) (hm1 : nc + mc' ≤ mc) (hm2 : ns + ms' ≤ ms) (hS8 : S.length ≤ 8)
    (hC : tC M' d' mc' ms' ((2, a) :: as) μ (tk M d mc ms F pc L S (nc + mc') (ns + ms'))) : tH M d mc ms F pc L (as.reverse ++ (2, a) :: S) μ nc ns := by
  intro p l e R s m args below meth c D A sp ad0 z0 O ad ca H locs ls hg hR hS hL hT hl X hX St
  have hTs : ∀ q ∈ S, tr_s (tm_z μ) q.1 q.2 := fun q h => hT q (List.mem_append_right _ (List.mem_cons_of_mem _ h))
  have hTas : ∀ q ∈ (2, a) :: as, tr_s (tm_z μ) q.1 q.2 := fun q h => by
    rcases List.mem_cons.mp h with h | h
    · rw [h]; exact hT _ (List.mem_append_right _ List.mem_cons_self)
    · exact hT q (List.mem_append_left _ (List.mem_reverse.mpr h))
  refine t_call0 hC hdd K.2.2.1 hm1 hm2 hS8 hd K.1 K.2.1 O hg hR hS hL hTs hTas hl hX St ?_
  obtain ⟨cellB, hcB, hoB, hclB⟩ := t_cls O hR h1 (tr_r (hTas _ List.mem_cons_self)).2 hc hci hk
  obtain ⟨r0, r, hn0, hrm, hstR, hsigR⟩ := Cond.declares_spec (O.N hq5 rfl (fun _ _ w z => va_Nw.warmD w z))
  obtain ⟨mk, methM, hnamed, hmethM, hstM, habM⟩ := Cond.instanceMethod_spec (O.ts _ hq4)
  obtain ⟨c2, r2, m2, q1, q2, q3, q4, kP, hkP, hkPi⟩ := Cond.selects_spec (O.ts _ hq3)
  cases hclB.symm.trans q1
  cases (State.methodFound?_of_named hn0 how).symm.trans q2
  cases hnamed.symm.trans q3
  have hselP : selectMethod e.platform s.vm cellB.cls r0 = .method mk := by rw [Launch.admits_selectMethod St.admits]; exact q4
  obtain ⟨vm₁, X₁, hstep₁⟩ := St.invokevirtualUp O.x O.own (O.any hq1) (O.any hq2) how hn0 hrm hstR (a := ad a) (cell := cellB) (by rw [hX]; exact hcB)
    (fun z h => by rw [h] at hoB; cases hoB) hselP hmethM habM hkP hkPi (g := F0 m pc ls ((as.reverse ++ (2, a) :: S).map fun q => te_v ad q.1 q.2)) rfl (argsL := as.map fun q => te_v ad q.1 q.2) (rest := S.map fun q => te_v ad q.1 q.2) (by
      rw [List.length_map, has]
      rw [hsigR] at hn
      exact (Option.some.inj hn).symm) (by
      show (as.reverse ++ (2, a) :: S).map _ = _
      rw [List.map_append, List.map_reverse, List.map_cons]
      show _ ++ va_rf (te_r ad a) :: _ = _
      rw [va_rfr ad h1]) (by rw [O.b]; exact hd)
  refine ⟨vm₁, mk, X₁.warmed, X₁.named hnamed, fun target h => hstep₁ target fun acts => ?_⟩
  have e1 : (((2, a) :: as).map fun q => te_v ad q.1 q.2).toArray = (Value.ref (ad a) :: as.map fun q => te_v ad q.1 q.2).toArray := by
    rw [List.map_cons]
    show (va_rf (te_r ad a) :: _).toArray = _
    rw [va_rfr ad h1]
  have := h acts
  rw [e1] at this
  exact this
/-- super's x, which is ow's method -/
theorem g_callSU {M' : tM} {d' mc' ms' idx ci n : Nat} {x : MethodName} {C : String} {T : u_T} {N : Nat} {a : Int} {as : tSt} (hd : decode M.2.1 pc = .ok (.invokespecial idx, 3)) (K : tcal M') (hq1 : tw_any (Cond.methodLink M.1.cls idx x)) (hq2 : tw_any (Cond.sameMethod x.cls M'.1.cls x.name x.desc)) (hxy : M'.1 = ⟨M'.1.cls, x.name, x.desc⟩) (hq4 : Cond.instanceMethod M'.1 ∈ lw_all) (hq5 : Cond.superclass M.1.cls x.cls ∈ lw_all) (hq6 : x.cls = M'.1.cls ∨ Cond.superclass x.cls M'.1.cls ∈ lw_all) (hno : x.name ≠ "<init>") (hc : tc_cl[ci]? = some (C, T, N)) (hci : ci < 20)
    (hn : (parseMethodDescriptor M'.1.desc).map (fun d => d.parameters.length) = some n) (has : as.length = n) (hdd : d' + 1 ≤ d) (h1 : 1 ≤ a) (hk : tm_k μ a = ci) (hm1 : nc + mc' ≤ mc) (hm2 : ns + ms' ≤ ms) (hS8 : S.length ≤ 8)
    (hC : tC M' d' mc' ms' ((2, a) :: as) μ (tk M d mc ms F pc L S (nc + mc') (ns + ms'))) : tH M d mc ms F pc L (as.reverse ++ (2, a) :: S) μ nc ns := by
  intro p l e R s m args below meth c D A sp ad0 z0 O ad ca H locs ls hg hR hS hL hT hl X hX St
  have hTs : ∀ q ∈ S, tr_s (tm_z μ) q.1 q.2 := fun q h => hT q (List.mem_append_right _ (List.mem_cons_of_mem _ h))
  have hTas : ∀ q ∈ (2, a) :: as, tr_s (tm_z μ) q.1 q.2 := fun q h => by
    rcases List.mem_cons.mp h with h | h
    · rw [h]; exact hT _ (List.mem_append_right _ List.mem_cons_self)
    · exact hT q (List.mem_append_left _ (List.mem_reverse.mpr h))
  refine t_call0 hC hdd K.2.2.1 hm1 hm2 hS8 hd K.1 K.2.1 O hg hR hS hL hTs hTas hl hX St ?_
  obtain ⟨cellB, hcB, hoB, hclB⟩ := t_cls O hR h1 (tr_r (hTas _ List.mem_cons_self)).2 hc hci hk
  have hkB : ∃ kB, s.vm.classes[cellB.cls]? = some kB := by
    obtain ⟨hfc, kB, hkB, -⟩ := (O.K.1 ci _ hc).2
    have e9 := Option.some.inj (hfc.symm.trans hclB)
    rw [← e9]
    exact ⟨kB, hkB⟩
  obtain ⟨kB, hkB⟩ := hkB
  obtain ⟨mk, methM, hnamed, hmethM, hstM, habM⟩ := Cond.instanceMethod_spec (O.ts _ hq4)
  obtain ⟨m9, methM', cM, hn9, hmethM', -, -, -, -, -, -, hsigM⟩ := tcw_spec (O.ts _ K.1)
  cases hnamed.symm.trans hn9
  cases hmethM.symm.trans hmethM'
  obtain ⟨ps, dk, kp, hps, hdk, hkp, hsuper, -, -, hnid⟩ := Cond.superclass_spec O.own (O.ts _ hq5)
  have hsub : s.vm.isSubclass ps mk.cls = true := by
    rcases hq6 with q | q
    · rw [q] at hps
      have hpm : ps = mk.cls := Option.some.inj (hps.symm.trans (findClass_of_methodNamed hnamed))
      rw [hpm]; simp [Vm.isSubclass, Vm.isSubclassAux]
    · obtain ⟨pq, dq, kq, hpq, hdq, hkq, hsq, -, -, -⟩ := Cond.superclass_spec hps (O.ts _ q)
      have hpm : pq = mk.cls := Option.some.inj (hpq.symm.trans (findClass_of_methodNamed hnamed))
      rw [hpm] at hsq
      exact t_sub hdq hsq
  obtain ⟨vm₁, X₁, hstep₁⟩ := St.invokespecialUp O.x O.own (O.any hq1) (O.any hq2) (by rw [← hxy]; exact hnamed) hmethM hstM habM hno hdk hnid hps hsuper hsub (a := ad a) (cell := cellB) (by rw [hX]; exact hcB)
    (fun z h => by rw [h] at hoB; cases hoB) hkB (g := F0 m pc ls ((as.reverse ++ (2, a) :: S).map fun q => te_v ad q.1 q.2)) rfl (argsL := as.map fun q => te_v ad q.1 q.2) (rest := S.map fun q => te_v ad q.1 q.2) (by rw [List.length_map, has]; exact tw_len (args := args) (s := s) hn hsigM) (by
      show (as.reverse ++ (2, a) :: S).map _ = _
      rw [List.map_append, List.map_reverse, List.map_cons]
      show _ ++ va_rf (te_r ad a) :: _ = _
      rw [va_rfr ad h1]) (by rw [O.b]; exact hd)
  refine ⟨vm₁, mk, X₁.warmed, X₁.named hnamed, fun target h => hstep₁ target ?_⟩
  have e1 : (((2, a) :: as).map fun q => te_v ad q.1 q.2).toArray = (Value.ref (ad a) :: as.map fun q => te_v ad q.1 q.2).toArray := by
    rw [List.map_cons]
    show (va_rf (te_r ad a) :: _).toArray = _
    rw [va_rfr ad h1]
  have := h []
  rw [e1] at this
  exact this
end CALL2
