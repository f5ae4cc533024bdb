/-! CONTRACTS AND CALLS -/
/-- a method's own word -/
def tcw (M : tM) : Cond := match M.2.2.2.2 with
  | [] => .code M.1 M.2.1 M.2.2.1 M.2.2.2.1
  | hh => .codeWith M.1 M.2.1 M.2.2.1 M.2.2.2.1 hh
theorem tcw_spec {M : tM} {args : Array Value} {s : State} (h : (tcw M).before args s = true) : ∃ m meth c, s.methodNamed? M.1 = some m ∧ s.vm.method? m = some meth ∧ meth.code = some c ∧ c.code = M.2.1 ∧ c.maxLocals = M.2.2.1 ∧
    c.exceptionTable.toList.map (fun x => (x.startPc, x.endPc, x.handlerPc, x.catchType)) = M.2.2.2.2 ∧ meth.sig.returnType = M.2.2.2.1 ∧ meth.locks = false ∧ parseMethodDescriptor M.1.desc = some meth.sig := by
  unfold tcw at h
  split at h
  · rename_i e
    obtain ⟨m, hn⟩ := Cond.code_named h
    obtain ⟨meth, c, h1, h2, h3, h4, h5, h6, h7, h8⟩ := Cond.code_spec hn h
    refine ⟨m, meth, c, hn, h1, h2, h3, h4, ?_, h5, h6, h8⟩
    rw [e]
    have : c.exceptionTable = #[] := by simpa using h7
    rw [this]
    rfl
  · exact Cond.codeWith_spec h
def trm (d mc ms : Nat) : Room := { frames := 16 + d, cells := mc, slots := ms, locals := 64 * d + 12000 }
def tPc (D : va_G) (A : Nat → Prop) (sp ad : Int → Nat) (ca : Int → ClassId) (as : tSt) (μ : tm_M) : Array Value → State → Prop := fun v U =>
  v = (as.map fun q => te_v ad q.1 q.2).toArray ∧ tB D A sp U ∧ tR D A U ad ca μ U.heap ∧ (∀ q ∈ as, tr_s (tm_z μ) q.1 q.2) ∧ ∀ a, a < 0 → ad a = sp a
/-- the method, called with as in the memory μ, ends as Q says -/
def tC (M : tM) (d mc ms : Nat) (as : tSt) (μ : tm_M) (Q : tQ) : Prop :=
  ∀ (l : Launch) (D : va_G) (A : Nat → Prop) (sp ad : Int → Nat) (ca : Int → ClassId), l.flags = pinnedFlags ++ [noTraceFlag] →
    MetFree l M.1 (headSpec (tcw M :: lw_all) (trm d mc ms)) (tPc D A sp ad ca as μ) (fun _ _ _ _ _ => True) (fun a st o t => tQc D A sp ad (tm_z μ) Q a st o t ∧ ∃ L, tFE st t L mc ms ∧ ∀ q ∈ L, A q.base)
theorem tC.mono {M : tM} {d mc ms : Nat} {as : tSt} {μ : tm_M} {Q Q' : tQ} (h : tC M d mc ms as μ Q) (hq : ∀ o μ', Q o μ' → Q' o μ') : tC M d mc ms as μ Q' := by
  intro l D A sp ad ca hfl p e ha hc hk s m args below hf happ hP hK
  obtain ⟨n, o, h1, h2, h3, ⟨⟨oA, μ', ad', ca', q1, q2, q3, q4, q5⟩, h5⟩, h6⟩ := h l D A sp ad ca hfl p e ha hc hk s m args below hf happ hP hK
  exact ⟨n, o, h1, h2, h3, ⟨⟨oA, μ', ad', ca', q1, q2, q3, q4, hq _ _ q5⟩, h5⟩, h6⟩
def tl_args : Nat → tSt → tLs
  | _, [] => []
  | i, (τ, x) :: t => (i, τ, x) :: tl_args (if τ = 1 then i + 2 else i + 1) t
def tl_words : tSt → Nat
  | [] => 0
  | q :: t => (if q.1 = 1 then 2 else 1) + tl_words t
theorem tl_args_e (ad : Int → Nat) : ∀ (as : tSt) (i : Nat), lv_args i (as.map fun q => te_v ad q.1 q.2) = (tl_args i as).map fun q => (q.1, te_v ad q.2.1 q.2.2)
  | [], _ => rfl
  | (τ, x) :: t, i => by
    have h1 := te_cat ad τ x
    simp only [List.map_cons, lv_args, tl_args]
    rw [tl_args_e ad t]
    by_cases e : τ = 1
    · have : (te_v ad τ x).category = 2 := by rw [e] at h1 ⊢; simpa using h1
      rw [if_pos this, if_pos e]
    · have : ¬ (te_v ad τ x).category = 2 := by rw [te_c1 ad x e]; decide
      rw [if_neg this, if_neg e]
theorem tl_words_e (ad : Int → Nat) : ∀ (as : tSt), (lg_sl (as.map fun q => te_v ad q.1 q.2)).length = tl_words as
  | [] => rfl
  | q :: t => by
    have h1 := te_cat ad q.1 q.2
    have ih := tl_words_e ad t
    unfold lg_sl at ih ⊢
    simp only [List.map_cons, List.flatMap_cons, List.length_append, tl_words]
    rw [ih]
    by_cases e : q.1 = 1
    · have : (te_v ad q.1 q.2).category = 2 := by rw [e] at h1 ⊢; simpa using h1
      rw [if_pos this, if_pos e]
      rfl
    · have : ¬ (te_v ad q.1 q.2).category = 2 := by rw [te_c1 ad q.2 e]; decide
      rw [if_neg this, if_neg e]
      rfl
theorem tl_args_m : ∀ (as : tSt) (i : Nat) (q : Nat × Nat × Int), q ∈ tl_args i as → (q.2.1, q.2.2) ∈ as
  | [], _, _, h => by cases h
  | (τ, x) :: t, i, q, h => by
    rcases List.mem_cons.mp h with e | e
    · rw [e]; exact List.mem_cons_self
    · exact List.mem_cons_of_mem _ (tl_args_m t _ q e)
/-- a contract out of a walk from the method's start -/
theorem tC_of {M : tM} {d mc ms : Nat} {as : tSt} {μ : tm_M} {Q : tQ} (hy : plainFor M.1 = true) (hw : tl_words as ≤ M.2.2.1) (h : tH M d mc ms (tq Q mc ms) 0 (tl_args 0 as) [] μ 0 0) : tC M d mc ms as μ Q := by
  intro l D A sp ad ca hfl
  refine MetFree.of_bodySF (code := M.2.1) (maxLocals := M.2.2.1) (ret := M.2.2.2.1) hy ?_ ?_
  · intro args s m hp hn
    obtain ⟨m9, meth, c, hn9, h1, h2, h3, h4, -, h5, h6, -⟩ := tcw_spec (atoms_spec (ws := tcw M :: lw_all) hp _ List.mem_cons_self)
    cases hn.symm.trans hn9
    exact ⟨meth, c, h1, h2, h3, h4, h5, h6⟩
  · intro p e s m args below meth c s₁ B hml hP _
    obtain ⟨rfl, hB, hR, hT, hn0⟩ := hP
    have hts := atoms_spec (ws := tcw M :: lw_all) B.pre
    obtain ⟨m9, meth9, c9, hn9, g1, g2, g3, g4, g5, g6, g7, -⟩ := tcw_spec (hts _ List.mem_cons_self)
    cases B.named.symm.trans hn9
    cases B.method.symm.trans g1
    have hcc : c = c9 := by
      have h1 := (Stand.of_body B).code
      rw [g2] at h1
      exact (Option.some.inj h1).symm
    subst hcc
    have O : tO p l e (trm d mc ms) s m ((as.map fun q => te_v ad q.1 q.2).toArray) meth c D A sp M d mc ms :=
      ⟨B.exec, B.bytes, B.returns, hml, findClass_of_methodNamed B.named, fun w hw => hts w (List.mem_cons_of_mem _ hw), B.notSynchronized, hB, ⟨Nat.le_refl _, Nat.le_refl _, Nat.le_refl _, Nat.le_refl _⟩, (name_of_methodNamed B.named B.method).1, g5, hfl⟩
    have hl := lv_entry (as.map fun q => te_v ad q.1 q.2) (n := M.2.2.1) (by rw [tl_words_e]; exact hw)
    rw [tl_args_e] at hl
    have hh0 : s₁.heap = s.heap := by rw [B.state]; rfl
    have k1 := h p l e (trm d mc ms) s m ((as.map fun q => te_v ad q.1 q.2).toArray) below meth c D A sp ad (tm_z μ) O ad ca s.heap [] _ ⟨hn0, fun _ _ => rfl, Int.le_refl _, hR.1.1⟩ hR va_S.rf (fun q hq => hT _ (tl_args_m as 0 q hq)) (fun q hq => by cases hq) hl
    obtain ⟨t, a1, o, b1, b2, b3, b4⟩ := k1 s₁ hh0 (Stand.of_body B)
    refine ⟨t, o, ?_, b1, b2, b3, b4⟩
    rw [lg_entry_eq]
    exact a1
theorem tB.blind {D : va_G} {A : Nat → Prop} {sp : Int → Nat} {U : State} (h : tB D A sp U) (g : JFrame) (mk : MethodId) (a : Array Value) : tB D A sp (U.calling g mk a) := h
theorem tPc.blind {D : va_G} {A : Nat → Prop} {sp ad : Int → Nat} {ca : Int → ClassId} {as : tSt} {μ : tm_M} {a : Array Value} {U : State} (h : tPc D A sp ad ca as μ a U) (g : JFrame) (mk : MethodId) : tPc D A sp ad ca as μ a (U.calling g mk a) := by
  obtain ⟨h1, h2, h3, h4, h5⟩ := h
  exact ⟨h1, h2.blind g mk a, h3.moved (U := U.calling g mk a) (Vm.Alike.refl U.vm), h4, h5⟩
section CB
variable {p : Program} {l : Launch} {e : Env} {R : Room} {s : State} {m : MethodId} {args : Array Value} {below : List Frame} {meth : Method} {c : Code} {locs : List Loc} {cells slots : Nat}
/-- the callee comes back, or throws -/
theorem tback {U : State} {M : tM} {d mc ms : Nat} {P : Array Value → State → Prop} {Qc : Array Value → State → Outcome → State → Prop} {A : Nat → Prop}
    (hM : MetFree l M.1 (headSpec (tcw M :: lw_all) (trm d mc ms)) P (fun _ _ _ _ _ => True) (fun a st o t => Qc a st o t ∧ ∃ L, tFE st t L mc ms ∧ ∀ q ∈ L, A q.base))
    (X : Stand p l e R s m args below meth c U locs cells slots) {g : JFrame} (hg : g.method = m) (hsize : g.locals.size = c.maxLocals) {ig : Instr} (hdg : decode c.code g.pc = .ok (ig, 3))
    (hW : 2 * g.monitorRoom + (g.stack.map fun v => v.category).sum ≤ 20) {mk : MethodId} (hn : U.methodNamed? M.1 = some mk) {a : Array Value}
    (hfr : 17 + d ≤ R.frames) (hlo : 64 * d + 12031 + M.2.2.1 ≤ R.locals) (hc1 : cells + mc ≤ R.cells) (hs1 : slots + ms ≤ R.slots)
    (hws : ∀ w ∈ tcw M :: lw_all, ∀ a' : Array Value, w.before a' U = true) (hini : ∀ a' : Array Value, (Cond.initialized M.1.cls).before a' U = true) (hP : P a (U.calling g mk a)) :
    ∃ (o : Outcome) (t : State) (L : List Loc), Qc a (U.calling g mk a) o t ∧ (∀ q ∈ L, A q.base) ∧ U.WarmedH t.vm ∧
      Stand p l e R s m args below meth c (({ U with heap := t.heap, slotsUsed := t.slotsUsed } : State).setVm t.vm) (locs ++ L) (cells + mc) (slots + ms) ∧
      (∀ v, o = .returned v → Steps p.tables e below (doInvoke e (U.setTop g) [] mk a).1 ((({ U with heap := t.heap, slotsUsed := t.slotsUsed } : State).setVm t.vm).setTop { g with pc := g.pc + 3, stack := v.toList ++ g.stack })) ∧
      (∀ x, o = .threw x → Steps p.tables e below (doInvoke e (U.setTop g) [] mk a).1 (((({ U with heap := t.heap, slotsUsed := t.slotsUsed } : State).setVm t.vm).setTop g).pushFrame (.throwing x))) := by
  obtain ⟨m9, methY, cY, hn9, hmY, hcY, -, hlY, -⟩ := tcw_spec (hws _ List.mem_cons_self a)
  cases hn.symm.trans hn9
  obtain ⟨kY, hkY, -⟩ := className_of_methodNamed hn
  have hinitY : kY.init = .initialized := Cond.initialized_spec (findClass_of_methodNamed hn) hkY (hini a)
  have h : At U g.method c below := by rw [hg]; exact X.here
  have happ : (headSpec (tcw M :: lw_all) (trm d mc ms)).appliesLoose M.1 e.platform (U.calling g mk a) = true :=
    Spec.appliesLoose_calling (g := g) h hdg hn hkY hinitY
      (X.room_calling (g := g) (R' := trm d mc ms) hsize hmY hcY (by show 16 + d + 1 ≤ _; omega) (by rw [hlY]; show _ + _ + (_ + 11) + (64 * d + 12000) ≤ _; omega) hc1 hs1) (atoms_intro fun w hw => hws w hw a)
  obtain ⟨mid, hmid⟩ := h.above
  have hfr2 : (U.setTop g).frames = (.java g :: mid) ++ below := by rw [State.frames_setTop' g h.top, hmid]; rfl
  obtain ⟨o, s₂, hsteps, -, hend, hq, L, hfe, hL⟩ := Steps.callFree hM p X.admits X.cas X.clock (acts := []) hfr2 happ hP trivial
  rw [State.frames_setTop' g h.top] at hend
  have hfe : tFE (U.calling g mk a) s₂ L mc ms := hfe
  obtain ⟨hW₂, e2, q2, q3, q4, q5, q6⟩ := id hfe
  have e3 : s₂ = ({ (U.calling g mk a).setFrames s₂.frames with heap := s₂.heap, slotsUsed := s₂.slotsUsed } : State).setVm s₂.vm := by
    have : s₂ = ({ s₂ with vm := (U.calling g mk a).vm } : State).setVm s₂.vm := rfl
    rw [e2] at this
    exact this
  have hW' : U.WarmedH s₂.vm := hW₂
  obtain ⟨g₀, hg0⟩ := Option.isSome_iff_exists.mp h.top
  obtain ⟨r, hr⟩ := State.topJava?_eq_some.mp hg0
  have hr' : (({ U with heap := s₂.heap, slotsUsed := s₂.slotsUsed } : State).setVm s₂.vm).frames = .java g₀ :: r := hr
  have hsame : U.sameButNew ({ U with heap := s₂.heap, slotsUsed := s₂.slotsUsed } : State) L mc ms := by
    refine ⟨?_, q2, q3, q4, q5, q6⟩
    obtain ⟨t, ht, -⟩ := State.frames_cons hr
    show ({ U with heap := s₂.heap, slotsUsed := s₂.slotsUsed } : State) = { U.setFrames U.frames with heap := s₂.heap, slotsUsed := s₂.slotsUsed }
    rw [State.setFrames_self ht]
  subst hg
  refine ⟨o, s₂, L, hq, hL, hW', ⟨X.admits, X.cas, X.clock, X.frames, X.room, X.hears, X.method, X.code, (X.here.setHeapUsed s₂.heap s₂.slotsUsed).setVm hW'.alike, X.tail, State.WarmedH.trans X.warmed hW', X.limits, X.bytes, X.same.trans (hsame.setVm s.vm)⟩, ?_, ?_⟩
  · rintro v rfl
    obtain ⟨c₂, i₂, len₂, hc₂, hd₂, hf₂⟩ := hend
    have hcc : c₂ = c := by
      have h1 : s₂.code? g.method = U.code? g.method := by
        rw [State.code?_eq, State.code?_eq, hW'.alike.method?]
      exact Option.some.inj (hc₂.symm.trans (h1.trans h.code))
    subst hcc
    have hlen : len₂ = 3 := by rw [hdg] at hd₂; cases hd₂; rfl
    subst hlen
    have hs₂ : s₂ = (({ U with heap := s₂.heap, slotsUsed := s₂.slotsUsed } : State).setVm s₂.vm).setTop { g with pc := g.pc + 3, stack := v.toList ++ g.stack } := by
      refine e3.trans ?_
      rw [hf₂, State.calling_eq h.top, State.setFrames_setFrames, State.setTop_of_frames _ hr', hr]
      rfl
    rw [← hs₂]
    exact hsteps
  · rintro x rfl
    have hf₂ : s₂.frames = .throwing x :: .java g :: U.frames.tail := hend
    have hs₂ : s₂ = ((({ U with heap := s₂.heap, slotsUsed := s₂.slotsUsed } : State).setVm s₂.vm).setTop g).pushFrame (.throwing x) := by
      refine e3.trans ?_
      rw [hf₂, State.calling_eq h.top, State.setFrames_setFrames, State.pushFrame, State.frames_setTop _ hr', State.setTop_of_frames _ hr', State.setFrames_setFrames, hr]
      rfl
    rw [← hs₂]
    exact hsteps
end CB
