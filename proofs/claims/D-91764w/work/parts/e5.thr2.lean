/-! EXCEPTIONS: rules -/
/-- a word of the tables, however it is sorted -/
theorem tO.tb {p : Program} {l : Launch} {e : Env} {R : Room} {s : State} {m : MethodId} {args : Array Value} {meth : Method} {c : Code} {D : va_G} {A : Nat → Prop} {sp : Int → Nat} {M : tM} {d mc ms : Nat} (h : tO p l e R s m args meth c D A sp M d mc ms) {w : Cond} (hw : w ∈ lw_tbl) (h1 : w.onTables = true) (h2 : w.keepsH = true) : w.before args s = true := by
  obtain ⟨s0, b, ht, -, -, -, hW, -⟩ := h.B
  exact Cond.onTables_warmH (T := s) (args' := args) hW h1 h2 (ht w hw)
/-- what a static field holds stays -/
theorem t_stat {a0 a1 : Array Value} {s0 s : State} (hW : s0.WarmedH s.vm) (ho : ∀ q : Nat, q < s0.heap.size → s.heap[q]? = s0.heap[q]?) {C n d : String} (h : (Cond.isRef (.static C n d)).before a0 s0 = true) :
    (Cond.isRef (.static C n d)).before a1 s = true ∧ ∀ (cf : ClassId) (k : Class) (i : Nat) (f : Field) (a : Nat), s.fieldFound? C n d = some (cf, k, i, f) → k.statics = some a → a < s0.heap.size := by
  have e0 : ∃ v, (Term.static C n d).eval a0 s0 none [] s0 = some v ∧ (v = .null ∨ ∃ x, v = .ref x) := by
    simp only [Cond.before, Cond.holds, Cond.value] at h
    cases hv : (Term.static C n d).eval a0 s0 none [] s0 with
    | none => simp [hv] at h
    | some v =>
      refine ⟨v, rfl, ?_⟩
      cases v with
      | null => exact Or.inl rfl
      | ref x => exact Or.inr ⟨x, rfl⟩
      | _ => simp [hv] at h
  obtain ⟨v, hv, hvr⟩ := e0
  simp only [Term.eval, State.fieldNamed?] at hv
  cases hf : s0.fieldFound? C n d with
  | none => simp [hf] at hv
  | some y =>
    obtain ⟨cf, k, i, f⟩ := y
    simp only [hf, Option.bind_eq_bind, Option.bind_some] at hv
    cases hst : (f.isStatic == true) with
    | false => simp [hst] at hv
    | true =>
      simp only [hst, if_true, Option.pure_def, Option.bind_some] at hv
      cases hk : k.statics with
      | none => simp [hk] at hv
      | some a =>
        simp only [hk, Option.bind_some] at hv
        cases hc : s0.heap[a]? with
        | none => simp [hc] at hv
        | some cell =>
          have hlt : a < s0.heap.size := (Array.getElem?_eq_some_iff.mp hc).1
          obtain ⟨k', hf', hek⟩ := State.fieldFound?_setVm (s := s0) hW.alike hf
          have hf2 : s.fieldFound? C n d = some (cf, k', i, f) := hf'
          have hk' : k'.statics = some a := by rw [hek]; exact hk
          refine ⟨?_, fun cf1 k1 i1 f1 a1 h1 h2 => ?_⟩
          · simp only [hc, Option.bind_some] at hv
            have e1 : (Term.static C n d).eval a1 s none [] s = some v := by
              simp only [Term.eval, State.fieldNamed?, hf2, Option.bind_eq_bind, Option.bind_some, hst, if_true, Option.pure_def, hk', ho a hlt, hc]
              exact hv
            simp only [Cond.before, Cond.holds, Cond.value, e1]
            rcases hvr with rfl | ⟨x, rfl⟩ <;> rfl
          · rw [hf2] at h1
            cases h1
            rw [hk'] at h2
            cases h2
            exact hlt
section FH
variable {e : Env} {f : JFrame} {a : Nat} {cell : Cell}
/-- one row that covers the place and names a class, resolved or not -/
theorem fh_one {u : State} {x : ExceptionTableEntry} {t : List ExceptionTableEntry} {c : ClassId} {Q : Handler → Pre} {E : CtlPost} {d : Bool} {acts : List Action} (hx : covers x f.pc = true) (h0 : x.catchType ≠ 0) (hl : u.vm.ClassLinks e.platform f.method.cls x.catchType c)
    (hcell : u.heap[a]? = some cell) (hobj : ∀ k, cell.vm ≠ .statics k) (hk : ∃ k, u.vm.classes[cell.cls]? = some k) :
    wp (findHandler.go f a (x :: t)) Q E e d acts u ↔ if u.vm.assignable cell.cls c = true then Q (.found x.handlerPc) d acts (u.setVm (u.vm.noted f.method.cls x.catchType (.cls c))) else wp (findHandler.go f a t) Q E e d acts (u.setVm (u.vm.noted f.method.cls x.catchType (.cls c))) := by
  simp only [covers] at hx
  obtain ⟨_, _, _, k2, _, _, _, _, _, hk2, _, _⟩ := hl.here
  obtain ⟨k1, hk1⟩ := hk
  obtain ⟨ha, ht⟩ := (resolveClass_links e.toSetting hl).op (op := VmOp.resolveClass f.method.cls x.catchType) rfl
  have hal : u.vm.Alike (u.vm.noted f.method.cls x.catchType (.cls c)) := (Vm.Alike.refl u.vm).noted _ _ _
  obtain ⟨j1, hj1, -⟩ := hal.2.2 _ _ hk1
  obtain ⟨j2, hj2, -⟩ := hal.2.2 _ _ hk2
  rw [← hal.assignable]
  cases hf : (u.vm.noted f.method.cls x.catchType (.cls c)).assignable cell.cls c <;> simp [findHandler.go, hx, h0, ha, ht, hcell, hobj, hj1, hj2, hf, VmOp.dirties, VmOp.acts]
/-- the rows before are passed, the row x takes it -/
theorem fh_all {s : State} (hobj : ∀ k, cell.vm ≠ .statics k) (hk : ∃ k, s.vm.classes[cell.cls]? = some k) {x : ExceptionTableEntry} {rest : List ExceptionTableEntry} (hx : covers x f.pc = true) (h0 : x.catchType ≠ 0) {c : ClassId} (hl : s.vm.ClassLinks e.platform f.method.cls x.catchType c) (hf : s.vm.assignable cell.cls c = true) :
    ∀ (pre : List ExceptionTableEntry) (u : State), s.WarmedH u.vm → u.heap[a]? = some cell →
      (∀ y ∈ pre, covers y f.pc = false ∨ (covers y f.pc = true ∧ y.catchType ≠ 0 ∧ ∃ c1, s.vm.ClassLinks e.platform f.method.cls y.catchType c1 ∧ s.vm.assignable cell.cls c1 = false)) →
      ∃ vm', s.WarmedH vm' ∧ ∀ (Q : Handler → Pre) (E : CtlPost) (d : Bool) (acts : List Action), wp (findHandler.go f a (pre ++ x :: rest)) Q E e d acts u ↔ Q (.found x.handlerPc) d acts (u.setVm vm') := by
  obtain ⟨k, hk⟩ := hk
  intro pre
  induction pre with
  | nil =>
    intro u hW hcell _
    obtain ⟨j, hj, -⟩ := hW.alike.2.2 _ _ hk
    obtain ⟨dk, _, _, _, hd, _, _, _, _, _, _, ho⟩ := hl.here
    refine ⟨_, hW.noted hd ho (State.rightAt_cls hl), fun Q E d acts => ?_⟩
    rw [List.nil_append, fh_one hx h0 (hW.classLinks hl) hcell hobj ⟨j, hj⟩, if_pos (by rw [hW.alike.assignable]; exact hf)]
  | cons y ys ih =>
    intro u hW hcell hp
    have hr := fun z hz => hp z (List.mem_cons_of_mem y hz)
    rcases hp y List.mem_cons_self with h1 | ⟨h1, h2, c1, h3, h4⟩
    · obtain ⟨vm', g1, g2⟩ := ih u hW hcell hr
      refine ⟨vm', g1, fun Q E d acts => ?_⟩
      rw [List.cons_append, W.findHandler_go_skip h1]
      exact g2 Q E d acts
    · obtain ⟨j, hj, -⟩ := hW.alike.2.2 _ _ hk
      obtain ⟨dk, _, _, _, hd, _, _, _, _, _, _, ho⟩ := h3.here
      obtain ⟨vm', g1, g2⟩ := ih (u.setVm (u.vm.noted f.method.cls y.catchType (.cls c1))) (hW.noted hd ho (State.rightAt_cls h3)) hcell hr
      refine ⟨vm', g1, fun Q E d acts => ?_⟩
      rw [List.cons_append, fh_one h1 h2 (hW.classLinks h3) hcell hobj ⟨j, hj⟩, if_neg (by rw [hW.alike.assignable, h4]; decide)]
      exact g2 Q E d acts
end FH
/-- the walk goes on at the row's place -/
theorem fh_step {tb : Tables} {e : Env} {T : State} {g : JFrame} {c : Code} {below : List Frame} {a : Nat} {target : State} (h : At T g.method c below) {pc : Nat} {vm' : Vm}
    (hf : ∀ (Q : Handler → Pre) (E : CtlPost) (d : Bool) (acts : List Action), wp (findHandler g a) Q E e d acts ((T.setTop g).pushFrame (.throwing a)) ↔ Q (.found pc) d acts (((T.setTop g).pushFrame (.throwing a)).setVm vm'))
    (hr : Steps tb e below ((T.setVm vm').setTop { g with pc := pc, stack := [.ref a] }) target) : Steps tb e below ((T.setTop g).pushFrame (.throwing a)) target := by
  obtain ⟨hgo, hw⟩ := h.throwing a
  refine Steps.head hgo hw ?_
  have key : (stepThrowing e ((T.setTop g).pushFrame (.throwing a)) a (.java g :: T.frames.tail)).Is ((((T.setTop g).pushFrame (.throwing a)).setVm vm').setFrames (.java { g with pc := pc, stack := [.ref a] } :: T.frames.tail)) [] := by
    simp only [stepThrowing, searchFrame, vmDo]
    generalize hres : Sem.go _ e false [] ((T.setTop g).pushFrame (.throwing a)) = res
    obtain ⟨as, rfl, ha⟩ := Sem.eq_ok_of hres (a := Handler.found pc) (s' := ((T.setTop g).pushFrame (.throwing a)).setVm vm') (acts' := []) (by simp [hf _ _ _ _])
    exact ⟨rfl, ha⟩
  rw [stepThread_throwing (frames_entered h.top _), key.1]
  obtain ⟨g₀, hg⟩ := Option.isSome_iff_exists.mp h.top
  obtain ⟨r, hr1⟩ := State.topJava?_eq_some.mp hg
  have hr2 : (T.setVm vm').frames = .java g₀ :: r := hr1
  rw [State.setTop_of_frames _ hr2] at hr
  have e1 : (((T.setTop g).pushFrame (.throwing a)).setVm vm').setFrames (.java { g with pc := pc, stack := [.ref a] } :: T.frames.tail) = (T.setVm vm').setFrames (.java { g with pc := pc, stack := [.ref a] } :: r) := by
    rw [hr1, List.tail_cons, State.pushFrame, State.setTop_of_frames _ hr1]
    have e2 : ∀ (u : State) (F G : List Frame), ((u.setFrames F).setVm vm').setFrames G = (u.setVm vm').setFrames G := fun u F G => by
      have e3 : (u.setFrames F).setVm vm' = (u.setVm vm').setFrames F := rfl
      rw [e3, State.setFrames_setFrames]
    rw [e2, e2]
  rw [e1]
  exact hr
section TRULES
variable {M : tM} {d mc ms : Nat} {F : tF} {pc : Nat} {L : tLs} {S : tSt} {μ : tm_M} {nc ns : Nat}
/-- the exception that the machine has made is a cell of the memory; it is on its way -/
theorem t_thr {C : String} {T0 : u_T} {k n ks : Nat} {msg : Option String} (hk : tc_cl[k]? = some (C, T0, 0)) (hk15 : k < 15) (h : tT M d mc ms F pc L (tm_z μ) (tm_a μ k 0) (nc + n) (ns + ks))
    {p : Program} {l : Launch} {e : Env} {R : Room} {s : State} {m : MethodId} {args : Array Value} {below : List Frame} {meth : Method} {c : Code} {D : va_G} {A : Nat → Prop} {sp ad0 : Int → Nat} {z0 : Int} (O : tO p l e R s m args meth c D A sp M d mc ms)
    {ad : Int → Nat} {ca : Int → ClassId} {H : Heap} {locs : List Loc} {ls : Array Slot} {st : List Value} (hg : tg sp ad0 z0 ad μ) (hR : tR D A s ad ca μ H) (hS : va_S A s.heap H locs) (hL : ∀ q ∈ L, tr_s (tm_z μ) q.2.1 q.2.2) (hl : lv_has ls M.2.2.1 (L.map fun q => (q.1, te_v ad q.2.1 q.2.2)))
    {T : State} (hH : T.heap = H) (hx : tThr p l e R s m args below meth c T locs nc ns C (F0 m pc ls st) msg n ks) :
    ∃ t, Steps p.tables e below ((T.setTop (F0 m pc ls st)).pushFrame (.throwNew C msg none)) t ∧ F below D A sp args s ad0 z0 t := by
  obtain ⟨T2, L', a, cell, X2, hL', ha, hsz, hold, hcell, hcls, hvm, hst⟩ := hx
  subst hH
  have hz := hR.1.1
  have hw : ∀ (i : Nat) (q : Nat × va_E), (te_w ad ca μ)[i]? = some q → q.1 < T.heap.size := by
    intro i q hq
    have := hR.2.1 i q hq
    unfold va_at at this
    split at this
    · exact (Array.getElem?_eq_some_iff.mp this).1
    · obtain ⟨r, -, c1, h1, -⟩ := this
      exact (Array.getElem?_eq_some_iff.mp h1).1
  have hA : A a := O.hA a (Nat.le_trans hS.1 ha)
  have hDk : cell.cls = D.1 k := by
    have h1 := (O.K.1 k _ hk).2.1
    exact (Option.some.inj (h1.symm.trans hcls)).symm
  have hE : te_e (tad ad (tm_z μ) a) (tca ca (tm_z μ) 0) (tm_a μ k 0) (tm_z μ) = .inr (k, []) := by
    rw [te_eo (ci := k) (by simp [tm_ka]) (by omega)]
    have : tt_nf k = 0 := by unfold tt_nf; rw [hk]
    rw [this]
    rfl
  have hP : va_P D tc_cl (te_w ad ca μ ++ [(a, .inr (k, []))]) T2.heap := by
    intro i q hq
    by_cases hi : i < (te_w ad ca μ).length
    · rw [List.getElem?_append_left hi] at hq
      have h1 := hR.2.1 i q hq
      have h2 := hold q.1 (hw i q hq)
      obtain ⟨qa, qe⟩ := q
      cases qe with
      | inl a1 =>
        show T2.heap[qa]? = _
        rw [h2]
        exact h1
      | inr o1 =>
        obtain ⟨r, h3, h4⟩ := h1
        exact ⟨r, h3, h4.kept h2⟩
    · rw [List.getElem?_append_right (by omega)] at hq
      have hi0 : i - (te_w ad ca μ).length = 0 := by
        rcases Nat.eq_zero_or_pos (i - (te_w ad ca μ).length) with h0 | h0
        · exact h0
        · rw [List.getElem?_eq_none (by simp; omega)] at hq; cases hq
      rw [hi0] at hq
      cases hq
      exact ⟨_, hk, cell, hcell, hDk, hvm, fun j hj => absurd hj (Nat.not_lt_zero _)⟩
  have hD : va_D A (te_w ad ca μ ++ [(a, .inr (k, []))]) := by
    have key : ∀ (i : Nat) (q : Nat × va_E), (te_w ad ca μ ++ [(a, .inr (k, []))])[i]? = some q → ((te_w ad ca μ)[i]? = some q ∧ q.1 < T.heap.size) ∨ (i = (te_w ad ca μ).length ∧ q.1 = a) := by
      intro i q hq
      by_cases hi : i < (te_w ad ca μ).length
      · rw [List.getElem?_append_left hi] at hq
        exact Or.inl ⟨hq, hw i q hq⟩
      · rw [List.getElem?_append_right (by omega)] at hq
        have hi0 : i - (te_w ad ca μ).length = 0 := by
          rcases Nat.eq_zero_or_pos (i - (te_w ad ca μ).length) with h0 | h0
          · exact h0
          · rw [List.getElem?_eq_none (by simp; omega)] at hq; cases hq
        rw [hi0] at hq
        cases hq
        exact Or.inr ⟨by omega, rfl⟩
    refine ⟨fun i j q r hi hj e1 => ?_, fun i q hi => ?_⟩
    · rcases key i q hi with ⟨k1, k2⟩ | ⟨k1, k2⟩ <;> rcases key j r hj with ⟨k3, k4⟩ | ⟨k3, k4⟩
      · exact hR.2.2.1.1 i j q r k1 k3 e1
      · omega
      · omega
      · omega
    · rcases key i q hi with ⟨k1, -⟩ | ⟨-, k2⟩
      · exact hR.2.2.1.2 i q k1
      · rw [k2]; exact hA
  have hR' := hR.al (k := k) (n := 0) (q := a) (cA := 0) (Or.inl ⟨hk15, by unfold tt_nf; rw [hk]; rfl⟩) hE (fun q => by omega) hP hD
  have hS' : va_S A s.heap T2.heap (locs ++ L') := by
    refine ⟨Nat.le_trans hS.1 hsz, fun q h1 h2 => ?_, fun q hq => ?_⟩
    · rw [hold q (Nat.lt_of_lt_of_le h1 hS.1)]
      exact hS.2.1 q h1 h2
    · rcases List.mem_append.mp hq with h1 | h1
      · exact hS.2.2 q h1
      · exact O.hA _ (Nat.le_trans hS.1 (hL' q h1))
  obtain ⟨t, k1, k2⟩ := h p l e R s m args below meth c D A sp ad0 z0 O (tad ad (tm_z μ) a) (tca ca (tm_z μ) 0) T2.heap (locs ++ L') ls st (hg.al k 0 a hz) hR' hS' (fun r hr => tr_sup (by rw [tm_za]; omega) (hL r hr)) hz (by rw [tm_za]; omega) (by rw [tL_al (by omega) a hL]; exact hl) T2 rfl X2
  have e1 : tad ad (tm_z μ) a (tm_z μ) = a := by simp [tad]
  rw [e1] at k1
  exact ⟨t, hst t k1, k2⟩
/-- no row of the method's table covers the place: it ends by the exception -/
theorem t_leave {Q : tQ} {a : Int} (hh : ∀ x ∈ M.2.2.2.2, ¬ (x.1 ≤ pc ∧ pc < x.2.1)) (h1 : nc ≤ mc) (h2 : ns ≤ ms) (h : Q (.inr a) μ) : tT M d mc ms (tq Q mc ms) pc L a μ nc ns := by
  intro p l e R s m args below meth c D A sp ad0 z0 O ad ca H locs ls st hg hR hS hL ha1 ha2 hl T hT X
  have hlk := O.lk
  obtain ⟨g1, g2, g3, g4, g5⟩ := X.leaveThrown (ad a) (g := F0 m pc ls st) rfl rfl rfl (fun x hx => by
    have := hh (x.startPc, x.endPc, x.handlerPc, x.catchType) (by rw [← O.hh]; exact List.mem_map.mpr ⟨x, hx, rfl⟩)
    dsimp only at this
    show (decide (x.startPc ≤ pc) && decide (pc < x.endPc)) = false
    simp only [Bool.and_eq_false_iff, decide_eq_false_iff_not]
    omega)
  have hh0 : (T.setFrames (.throwing (ad a) :: below)).heap = H := by rw [← hT]; rfl
  refine ⟨_, g1, .threw (ad a), g2, g3, ⟨⟨.inr a, μ, ad, ca, hg, rfl, ⟨ha1, ha2⟩, ?_, h⟩, hS.F hh0⟩, locs, ⟨g4, g5.weaken (fun y hy _ => hy) h1 h2⟩, hS.2.2⟩
  rw [hh0]
  exact hR.moved g4.alike
/-- a row of the method's table takes it -/
theorem t_catch {a : Int} {C nm : String} {T0 : u_T} {k N : Nat} (hc : tc_cl[k]? = some (C, T0, N)) (hk20 : k < 20) (hk : tm_k μ a = k) {pre rest : List (Nat × Nat × Nat × Nat)} {x : Nat × Nat × Nat × Nat} (hh : M.2.2.2.2 = pre ++ x :: rest)
    (hpre : ∀ y ∈ pre, ¬ (y.1 ≤ pc ∧ pc < y.2.1) ∨ (y.2.2.2 ≠ 0 ∧ ∃ n1, Cond.classLink M.1.cls y.2.2.2 n1 ∈ lw_all ∧ Cond.not (.castable C n1) ∈ flatC (Jvm.Cond.and given_1 narrow_1)))
    (hx : x.1 ≤ pc ∧ pc < x.2.1) (hx0 : x.2.2.2 ≠ 0) (hl1 : Cond.classLink M.1.cls x.2.2.2 nm ∈ lw_all) (hca : Cond.castable C nm ∈ lw_tbl) (h : tH M d mc ms F x.2.2.1 L [(2, a)] μ nc ns) : tT M d mc ms F pc L a μ nc ns := by
  intro p l e R s m args below meth c D A sp ad0 z0 O ad ca H locs ls st hg hR hS hL ha1 ha2 hl T hT X
  have hpl : e.platform.magicAccessors = ({} : Platform).magicAccessors := by rw [X.admits.platform]
  obtain ⟨cell, hcell, hobj, hcl⟩ := t_cls O hR ha1 ha2 hc hk20 hk
  have hsp := O.hh
  rw [hh] at hsp
  obtain ⟨pre', r1, e1, e2, e3⟩ := List.map_eq_append_iff.mp hsp
  obtain ⟨x', rest', e4, e5, e6⟩ := List.map_eq_cons_iff.mp e3
  subst e2
  subst e4
  obtain ⟨c0, t0, f1, f2, f3⟩ := Cond.castable_spec (O.N hca rfl (fun _ _ hW hZ => va_Nw.warmC hW hZ))
  cases hcl.symm.trans f1
  obtain ⟨c9, hc9, hlk⟩ := Cond.classLink_spec O.own (O.ts _ hl1) e.platform hpl
  cases f2.symm.trans hc9
  have hk0 : ∃ k, s.vm.classes[cell.cls]? = some k := Vm.classAt_of_findClass hcl
  have hxx : covers x' pc = true := by
    rw [← e5] at hx
    show (decide (x'.startPc ≤ pc) && decide (pc < x'.endPc)) = true
    simp only [Bool.and_eq_true, decide_eq_true_eq]
    exact hx
  obtain ⟨vm', hW', hf⟩ := fh_all (e := e) (f := F0 m pc ls st) (a := ad a) (cell := cell) (s := s) (VmData.ne_statics_of hobj) hk0 (x := x') (rest := rest') hxx (by rw [← e5] at hx0; exact hx0) (by rw [← e5] at hlk; exact hlk) f3 pre' ((T.setTop (F0 m pc ls st)).pushFrame (.throwing (ad a))) X.warmed (by rw [← hT] at hcell; exact hcell) (fun y hy => by
    by_cases hcv : covers y pc = true
    · rcases hpre _ (List.mem_map.mpr ⟨y, hy, rfl⟩) with h1 | ⟨h1, n1, h2, h3⟩
      · exfalso
        refine h1 ?_
        simp only [covers, Bool.and_eq_true, decide_eq_true_eq] at hcv
        exact hcv
      · obtain ⟨c8, hc8, hl8⟩ := Cond.classLink_spec O.own (O.ts _ h2) e.platform hpl
        obtain ⟨s0, b, -, hn, -, -, hW, -⟩ := O.B
        obtain ⟨c1, t1, w1, w2, w3⟩ := va_Nc.moved hW.alike (va_Nc.of (flat_of_before _ hn _ h3))
        cases hcl.symm.trans w1
        cases hc8.symm.trans w2
        exact Or.inr ⟨hcv, h1, _, hl8, w3⟩
    · exact Or.inl (by simpa using hcv))
  have X' := X.noted hW'
  have k1 := h p l e R s m args below meth c D A sp ad0 z0 O ad ca H locs ls hg hR hS hL (ts_c (tr_k rfl (by show 0 ≤ a ∧ a < tm_z μ; omega)) (fun q hq => by cases hq)) hl
  obtain ⟨t, k2, k3⟩ := k1 (T.setVm vm') hT X'
  refine ⟨t, ?_, k3⟩
  have e7 : ({ F0 m pc ls st with pc := x'.handlerPc, stack := [.ref (ad a)] } : JFrame) = F0 m x.2.2.1 ls ([(2, a)].map fun q => te_v ad q.1 q.2) := by
    rw [← e5]
    show F0 m x'.handlerPc ls [.ref (ad a)] = F0 m x'.handlerPc ls [va_rf (te_r ad a)]
    rw [va_rfr ad ha1]
  refine fh_step (c := c) (pc := x'.handlerPc) (vm' := vm') X.here (fun Q E d acts => ?_) ?_
  · rw [W.findHandler_eq (meth := meth) (code := c) X.method' X.code, e1]
    exact hf Q E d acts
  · rw [e7]
    exact k2
end TRULES
