/-! THE JUDGEMENT. tM: a method: its name, code, locals, answer, handlers. tQ: what is to hold at the end: of the outcome (.inl: returned; .inr: threw) and the memory. -/
abbrev tM : Type := MethodName × ByteArray × Nat × Option FieldType × List (Nat × Nat × Nat × Nat)
abbrev tOc : Type := (Option (Nat × Int)) ⊕ Int
abbrev tQ : Type := tOc → tm_M → Prop
abbrev tLs : Type := List (Nat × Nat × Int)
abbrev tSt : Type := List (Nat × Int)
def to_e (ad : Int → Nat) : tOc → Outcome
  | .inl none => .returned none
  | .inl (some q) => .returned (some (te_v ad q.1 q.2))
  | .inr a => .threw (ad a)
def to_ok (z : Int) : tOc → Prop
  | .inl none => True
  | .inl (some q) => tr_s z q.1 q.2
  | .inr a => 1 ≤ a ∧ a < z
/-- the world that stays: where the run began (s0, the script at b), its tables, the old heap; sp: addresses of old things (-1 the script, -2 the key words, -3 their bytes, -4 what tells bad indices; -5: 0 if there is none) -/
def tB (D : va_G) (A : Nat → Prop) (sp : Int → Nat) (s : State) : Prop :=
  ∃ (s0 : State) (b : Nat), (∀ w ∈ lw_tbl, w.before #[Value.ref b] s0 = true) ∧ (Jvm.Cond.and given_1 narrow_1).before #[Value.ref b] s0 = true ∧ va_K D tc_cl [] s0 ∧ (∀ q, A q ↔ s0.heap.size ≤ q) ∧
    s0.WarmedH s.vm ∧ s0.heap.size ≤ s.heap.size ∧ (∀ q : Nat, q < s0.heap.size → s.heap[q]? = s0.heap[q]?) ∧ sp (-1) = b ∧ (Term.string RX2 62).eval #[] s0 none [] s0 = some (.ref (sp (-2))) ∧
    (Term.field (.string RX2 62) "java/lang/String" "value" "[B").eval #[] s0 none [] s0 = some (.ref (sp (-3))) ∧ (Term.static "jdk/internal/util/Preconditions" "SIOOBE_FORMATTER" "Ljava/util/function/BiFunction;").eval #[] s0 none [] s0 = some (if sp (-5) = 0 then .null else .ref (sp (-4)))
def tO (p : Program) (l : Launch) (e : Env) (R : Room) (s : State) (m : MethodId) (args : Array Value) (meth : Method) (c : Code) (D : va_G) (A : Nat → Prop) (sp : Int → Nat) (M : tM) (d mc ms : Nat) : Prop :=
  p.tables.exec = Jvm.exec ∧ c.code = M.2.1 ∧ meth.sig.returnType = M.2.2.2.1 ∧ c.maxLocals = M.2.2.1 ∧ s.vm.findClass M.1.cls = some m.cls ∧ (∀ w ∈ lw_all, w.before args s = true) ∧ meth.locks = false ∧
  tB D A sp s ∧ (16 + d ≤ R.frames ∧ 64 * d + 12000 ≤ R.locals ∧ mc ≤ R.cells ∧ ms ≤ R.slots) ∧ meth.name = M.1.name ∧
  c.exceptionTable.toList.map (fun x => (x.startPc, x.endPc, x.handlerPc, x.catchType)) = M.2.2.2.2 ∧ l.flags = pinnedFlags ++ [noTraceFlag]
section TO
variable {p : Program} {l : Launch} {e : Env} {R : Room} {s : State} {m : MethodId} {args : Array Value} {meth : Method} {c : Code} {D : va_G} {A : Nat → Prop} {sp : Int → Nat} {M : tM} {d mc ms : Nat}
theorem tO.x (h : tO p l e R s m args meth c D A sp M d mc ms) : p.tables.exec = Jvm.exec := h.1
theorem tO.b (h : tO p l e R s m args meth c D A sp M d mc ms) : c.code = M.2.1 := h.2.1
theorem tO.r (h : tO p l e R s m args meth c D A sp M d mc ms) : meth.sig.returnType = M.2.2.2.1 := h.2.2.1
theorem tO.ml (h : tO p l e R s m args meth c D A sp M d mc ms) : c.maxLocals = M.2.2.1 := h.2.2.2.1
theorem tO.own (h : tO p l e R s m args meth c D A sp M d mc ms) : s.vm.findClass M.1.cls = some m.cls := h.2.2.2.2.1
theorem tO.ts (h : tO p l e R s m args meth c D A sp M d mc ms) : ∀ w ∈ lw_all, w.before args s = true := h.2.2.2.2.2.1
theorem tO.lk (h : tO p l e R s m args meth c D A sp M d mc ms) : meth.locks = false := h.2.2.2.2.2.2.1
theorem tO.B (h : tO p l e R s m args meth c D A sp M d mc ms) : tB D A sp s := h.2.2.2.2.2.2.2.1
theorem tO.rm (h : tO p l e R s m args meth c D A sp M d mc ms) : 16 + d ≤ R.frames ∧ 64 * d + 12000 ≤ R.locals ∧ mc ≤ R.cells ∧ ms ≤ R.slots := h.2.2.2.2.2.2.2.2.1
theorem tO.nm (h : tO p l e R s m args meth c D A sp M d mc ms) : meth.name = M.1.name := h.2.2.2.2.2.2.2.2.2.1
theorem tO.hh (h : tO p l e R s m args meth c D A sp M d mc ms) : c.exceptionTable.toList.map (fun x => (x.startPc, x.endPc, x.handlerPc, x.catchType)) = M.2.2.2.2 := h.2.2.2.2.2.2.2.2.2.2.1
theorem tO.fl (h : tO p l e R s m args meth c D A sp M d mc ms) : l.flags = pinnedFlags ++ [noTraceFlag] := h.2.2.2.2.2.2.2.2.2.2.2
theorem tO.K (h : tO p l e R s m args meth c D A sp M d mc ms) : va_K D tc_cl [] s := by
  obtain ⟨s0, b, -, -, hK, -, hW, -⟩ := h.B
  exact va_K.moved hW.alike hK
theorem tO.hA (h : tO p l e R s m args meth c D A sp M d mc ms) : ∀ q, s.heap.size ≤ q → A q := by
  obtain ⟨s0, b, -, -, -, hA, -, hz, -⟩ := h.B
  exact fun q hq => (hA q).mpr (Nat.le_trans hz hq)
/-- a word of the tables that warmer tables keep -/
theorem tO.N (h : tO p l e R s m args meth c D A sp M d mc ms) {w : Cond} (hw : w ∈ lw_tbl) (ho : w.onTables = true) (hm : ∀ (s U : State), s.WarmedH U.vm → va_Nw w s → va_Nw w U) : w.before args s = true := by
  obtain ⟨s0, b, ht, -, -, -, hW, -⟩ := h.B
  exact va_Nw.use ho (hm s0 s hW (va_Nw.of ho (ht w hw)))
end TO
theorem tB.later {D : va_G} {A : Nat → Prop} {sp : Int → Nat} {s U : State} (h : tB D A sp s) (hW : s.WarmedH U.vm) (hz : s.heap.size ≤ U.heap.size) (ho : ∀ q : Nat, q < s.heap.size → ¬ A q → U.heap[q]? = s.heap[q]?) : tB D A sp U := by
  obtain ⟨s0, b, h1, h2, h3, h4, h5, h6, h7, h8⟩ := h
  refine ⟨s0, b, h1, h2, h3, h4, State.WarmedH.trans h5 hW, Nat.le_trans h6 hz, fun q hq => ?_, h8⟩
  rw [ho q (Nat.lt_of_lt_of_le hq h6) (fun c => by have := (h4 q).mp c; omega)]
  exact h7 q hq
theorem tR.moved {D : va_G} {A : Nat → Prop} {s U : State} {ad : Int → Nat} {ca : Int → ClassId} {μ : tm_M} {H : Heap} (hv : s.vm.Alike U.vm) (h : tR D A s ad ca μ H) : tR D A U ad ca μ H :=
  ⟨h.1, h.2.1, h.2.2.1, fun a h1 h2 h3 => ⟨arrOfT_moved hv (h.2.2.2 a h1 h2 h3).1, (h.2.2.2 a h1 h2 h3).2.moved hv⟩⟩
/-- addresses: of old things, of the method's start -/
def tg (sp ad0 : Int → Nat) (z0 : Int) (ad : Int → Nat) (μ : tm_M) : Prop := (∀ a, a < 0 → ad a = sp a) ∧ (∀ a, a < z0 → ad a = ad0 a) ∧ z0 ≤ tm_z μ ∧ 1 ≤ z0
abbrev tF : Type := List Frame → va_G → (Nat → Prop) → (Int → Nat) → Array Value → State → (Int → Nat) → Int → State → Prop
/-- from pc on, with these locals, this stack, this memory: the method comes to its end F -/
def tH (M : tM) (d mc ms : Nat) (F : tF) (pc : Nat) (L : tLs) (S : tSt) (μ : tm_M) (nc ns : Nat) : Prop :=
  ∀ (p : Program) (l : Launch) (e : Env) (R : Room) (s : State) (m : MethodId) (args : Array Value) (below : List Frame) (meth : Method) (c : Code) (D : va_G) (A : Nat → Prop) (sp ad0 : Int → Nat) (z0 : Int),
    tO p l e R s m args meth c D A sp M d mc ms →
    ∀ (ad : Int → Nat) (ca : Int → ClassId) (H : Heap) (locs : List Loc) (ls : Array Slot),
      tg sp ad0 z0 ad μ → tR D A s ad ca μ H → va_S A s.heap H locs → (∀ q ∈ L, tr_s (tm_z μ) q.2.1 q.2.2) → (∀ q ∈ S, tr_s (tm_z μ) q.1 q.2) → lv_has ls M.2.2.1 (L.map fun q => (q.1, te_v ad q.2.1 q.2.2)) →
      W p l e R s m args below meth c H locs nc ns (F below D A sp args s ad0 z0) (F0 m pc ls (S.map fun q => te_v ad q.1 q.2))
/-- what a method's end says -/
def tQc (D : va_G) (A : Nat → Prop) (sp ad0 : Int → Nat) (z0 : Int) (Q : tQ) : Array Value → State → Outcome → State → Prop := fun _ st o t =>
  (∃ (oA : tOc) (μ' : tm_M) (ad' : Int → Nat) (ca' : Int → ClassId), tg sp ad0 z0 ad' μ' ∧ o = to_e ad' oA ∧ to_ok (tm_z μ') oA ∧ tR D A t ad' ca' μ' t.heap ∧ Q oA μ') ∧ va_F A st t
def tFE (first t : State) (L : List Loc) (k n : Nat) : Prop := first.WarmedH t.vm ∧ first.sameButNew ({ t with vm := first.vm } : State) L k n
def tq (Q : tQ) (mc ms : Nat) : tF := fun below D A sp args s ad0 z0 t => ∃ o, t.status = .running ∧ Ended t below o ∧ tQc D A sp ad0 z0 Q args s o t ∧ ∃ L, tFE s t L mc ms ∧ ∀ q ∈ L, A q.base
theorem W.mono {p : Program} {l : Launch} {e : Env} {R : Room} {s : State} {m : MethodId} {args : Array Value} {below : List Frame} {meth : Method} {c : Code} {H : Heap} {locs : List Loc} {cells slots : Nat} {Q Q' : State → Prop} {g : JFrame} (h : ∀ t, Q t → Q' t) (k : W p l e R s m args below meth c H locs cells slots Q g) : W p l e R s m args below meth c H locs cells slots Q' g := by
  intro T hT X
  obtain ⟨t, a, b⟩ := k T hT X
  exact ⟨t, a, h t b⟩
theorem tq_of {Q : tQ} {mc ms : Nat} {below : List Frame} {D : va_G} {A : Nat → Prop} {sp ad0 : Int → Nat} {z0 : Int} {args : Array Value} {s : State} : ∀ t, MQ below (tQc D A sp ad0 z0 Q) args s mc ms A t → tq Q mc ms below D A sp args s ad0 z0 t := by
  intro t ⟨o, h1, h2, h3, L, h4, h5⟩
  exact ⟨o, h1, h2, h3, L, h4.2, h5⟩
/-! 32 and 64 bits -/
def w32 (x : Int) : Int := (Int32.ofInt x).toInt
def w64 (x : Int) : Int := (Int64.ofInt x).toInt
theorem i32_w (x : Int) : Int32.ofInt (w32 x) = Int32.ofInt x := Int32.ofInt_toInt _
theorem i64_w (x : Int) : Int64.ofInt (w64 x) = Int64.ofInt x := Int64.ofInt_toInt _
theorem i32_t {x : Int} (h1 : -2147483648 ≤ x) (h2 : x ≤ 2147483647) : (Int32.ofInt x).toInt = x := by
  exact Int32.toInt_ofInt_of_le (by omega) (by omega)
theorem i64_t {x : Int} (h1 : -9223372036854775808 ≤ x) (h2 : x ≤ 9223372036854775807) : (Int64.ofInt x).toInt = x := by
  exact Int64.toInt_ofInt_of_le (by omega) (by omega)
theorem w32_id {x : Int} (h1 : -2147483648 ≤ x) (h2 : x ≤ 2147483647) : w32 x = x := i32_t h1 h2
theorem w64_id {x : Int} (h1 : -9223372036854775808 ≤ x) (h2 : x ≤ 9223372036854775807) : w64 x = x := i64_t h1 h2
theorem w32_ok (z x : Int) : tr_s z 0 (w32 x) := by
  refine ⟨Or.inl (by decide), ?_⟩
  have h1 := Int32.le_toInt (Int32.ofInt x)
  have h2 := Int32.toInt_lt (Int32.ofInt x)
  show -2147483648 ≤ (Int32.ofInt x).toInt ∧ (Int32.ofInt x).toInt ≤ 2147483647
  omega
theorem w64_ok (z x : Int) : tr_s z 1 (w64 x) := by
  refine ⟨Or.inl (by decide), ?_⟩
  have h1 := Int64.le_toInt (Int64.ofInt x)
  have h2 := Int64.toInt_lt (Int64.ofInt x)
  show -9223372036854775808 ≤ (Int64.ofInt x).toInt ∧ (Int64.ofInt x).toInt ≤ 9223372036854775807
  omega
