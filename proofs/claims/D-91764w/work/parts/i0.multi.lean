/-! MULTIANEWARRAY, two dimensions: the machine -/
section MUL
variable {e : Env} {E : CtlPost} {d : Bool} {acts : List Action} {T : State} {cA cI comp2 : ClassId} {n1 n2 : Nat} {dv : Value}
/-- the outer array when i rows are there -/
def mzO (cA : ClassId) (n1 b i : Nat) : Cell := arrV cA n1 fun q => if q < i then .ref (b + 1 + q) else .null
def mz (T : State) (cA cI : ClassId) (n1 n2 : Nat) (dv : Value) : Nat → State
  | 0 => T.pushCell (mzO cA n1 T.heap.size 0)
  | i + 1 => ((mz T cA cI n1 n2 dv i).pushCell (arrV cI n2 fun _ => dv)).setCell T.heap.size (mzO cA n1 T.heap.size (i + 1))
theorem mzO_0 (b : Nat) : ({ cls := cA, slots := Array.replicate n1 .null, vm := .none } : Cell) = mzO cA n1 b 0 := by
  rw [arrV_new]
  unfold mzO
  congr 1
theorem mzO_s (b i : Nat) : (mzO cA n1 b i).setSlot i (.ref (b + 1 + i)) = mzO cA n1 b (i + 1) := by
  unfold mzO
  rw [arrV_store]
  congr 1
  funext q
  unfold updV
  by_cases h : q = i
  · subst h
    rw [if_pos rfl, if_pos (by omega)]
  · rw [if_neg h]
    show (if q < i then Value.ref (b + 1 + q) else Value.null) = _
    by_cases h2 : q < i
    · rw [if_pos h2, if_pos (by omega)]
    · rw [if_neg h2, if_neg (by omega)]
theorem mz_f (i : Nat) : (mz T cA cI n1 n2 dv i).heap.size = T.heap.size + 1 + i ∧ (mz T cA cI n1 n2 dv i).heap[T.heap.size]? = some (mzO cA n1 T.heap.size i) ∧ (mz T cA cI n1 n2 dv i).vm = T.vm ∧ (mz T cA cI n1 n2 dv i).slotsUsed = T.slotsUsed + n1 + i * n2 ∧
    (∀ q, q < T.heap.size → (mz T cA cI n1 n2 dv i).heap[q]? = T.heap[q]?) ∧ (T.topJava?.isSome → (mz T cA cI n1 n2 dv i).topJava?.isSome) := by
  induction i with
  | zero =>
    refine ⟨State.heap_size_pushCell _ _, State.heap_pushCell_size _ _, rfl, ?_, fun q hq => State.heap_pushCell_of_lt _ _ hq, fun h => h⟩
    show T.slotsUsed + (mzO cA n1 T.heap.size 0).slots.size = _
    rw [mzO, arrV_size]
    omega
  | succ i ih =>
    obtain ⟨a1, a2, a3, a4, a5, a6⟩ := ih
    have b1 : ((mz T cA cI n1 n2 dv i).pushCell (arrV cI n2 fun _ => dv)).heap.size = T.heap.size + 1 + i + 1 := by rw [State.heap_size_pushCell, a1]
    refine ⟨?_, ?_, a3, ?_, fun q hq => ?_, a6⟩
    · show (State.setCell _ _ _).heap.size = _
      rw [size_setCell, b1]
      omega
    · have b2 : T.heap.size < ((mz T cA cI n1 n2 dv i).pushCell (arrV cI n2 fun _ => dv)).heap.size := by rw [b1, Nat.add_assoc, Nat.add_assoc]; exact Nat.lt_add_of_pos_right (by omega)
      exact heapAt_setCell_self _ b2
    · show (mz T cA cI n1 n2 dv i).slotsUsed + (arrV cI n2 fun _ => dv).slots.size = _
      rw [arrV_size, a4, Nat.succ_mul]
      omega
    · show (State.setCell _ _ _).heap[q]? = _
      rw [heapAt_setCell_ne _ (Nat.ne_of_gt hq), State.heap_pushCell_of_lt _ _ (by rw [a1, Nat.add_assoc]; exact Nat.lt_of_lt_of_le hq (Nat.le_add_right _ _))]
      exact a5 q hq
theorem multi_wp {index : Nat} {kA kI : Class} {m1 m2 : Int32} {t t2 : FieldType} {f : JFrame} {rest : List Value} {Q : Unit → Pre} (hs : T.topJava?.isSome) (hr : T.vm.classReady f.method.cls index cA) (hkA : T.vm.classes[cA]? = some kA) (hkindA : kA.kind = .array cI t) (href : fits t .null = true) (hfr : ∀ q, fits t (.ref q) = true) (hkI : T.vm.classes[cI]? = some kI) (hkindI : kI.kind = .array comp2 t2) (hfd : fits t2 (defaultValue t2) = true)
    (hstack : f.stack = .int m2 :: .int m1 :: rest) (h1 : ¬ m1 < 0) (h2 : ¬ m2 < 0) (h0 : (m1 == 0) = false) (hn1 : m1.toNatClampNeg = n1) (hn2 : m2.toNatClampNeg = n2)
    (hl1 : ¬ n1 > e.platform.arrayLengthLimit) (hl2 : ¬ n2 > e.platform.arrayLengthLimit) (hb1 : ¬ n1 * componentBytes t > e.platform.maxHeapBytes) (hb2 : ¬ n2 * componentBytes t2 > e.platform.maxHeapBytes)
    (hcells : T.heap.size + 1 + n1 ≤ e.platform.maxCells) (hslots : T.slotsUsed + n1 + n1 * n2 ≤ e.platform.maxSlots)
    (hq : ∀ d' acts', Q () d' acts' ((mz T cA cI n1 n2 (defaultValue t2) n1).setTop { f with stack := .ref T.heap.size :: rest })) : wp (multianewarray.sem index 2) Q E e d acts (T.setTop f) := by
  simp only [multianewarray.sem, wp_bind', W.resolveClassAt_ready (State.method?_setTop f hs) hr]
  refine (popN_top (args := [.int m1, .int m2]) hs hstack).mpr ?_
  simp only [List.mapM_cons, List.mapM_nil, wp_bind', wp_pure', multianewarray.make, W.ite, h1, if_false, W.theClass, State.vm_setTop, hkA, Option.some.injEq, exists_eq_left', hkindA, hn1]
  refine W.newArray_of (s := T.setTop { f with stack := rest }) hkA hkindA hl1 hb1 ?_ ?_ href (fun acts1 => ?_)
  · show T.heap.size < _
    exact Nat.lt_of_lt_of_le (Nat.lt_of_lt_of_le (Nat.lt_succ_self _) (Nat.le_add_right _ _)) hcells
  · show T.slotsUsed + n1 ≤ _
    exact Nat.le_trans (Nat.le_add_right _ _) hslots
  simp only [h0, Bool.false_eq_true, if_false, wp_bind', Std.Legacy.Range.forIn_eq_forIn_range', Std.Legacy.Range.size]
  have f0 := mz_f (T := T) (cA := cA) (cI := cI) (n1 := n1) (n2 := n2) (dv := defaultValue t2)
  have esz : (n1 - 0 + 1 - 1) / 1 = n1 := by simp
  rw [esz]
  refine wp_forIn_inv (fun rest' s' => ∃ i, rest' = List.range' i (n1 - i) 1 ∧ i ≤ n1 ∧ s' = (mz T cA cI n1 n2 (defaultValue t2) i).setTop { f with stack := rest }) _ _ ⟨0, rfl, Nat.zero_le _, ?_⟩ ?_ ?_
  · show (T.setTop { f with stack := rest }).pushCell _ = (T.pushCell (mzO cA n1 T.heap.size 0)).setTop _
    rw [← mzO_0]
    rfl
  · rintro x rest' s' d' acts' Q' ⟨i, hr', hi, rfl⟩ hnext
    obtain ⟨k, hk⟩ : ∃ k, n1 - i = k + 1 := by
      cases hq' : n1 - i with
      | zero => rw [hq'] at hr'; cases hr'
      | succ k => exact ⟨k, rfl⟩
    rw [hk, List.range'_succ] at hr'
    cases hr'
    obtain ⟨a1, a2, a3, a4, a5, a6⟩ := f0 x
    have hvm : ((mz T cA cI n1 n2 (defaultValue t2) x).setTop { f with stack := rest }).vm = T.vm := a3
    simp only [wp_bind', h2, if_false, W.theClass, hvm, hkI, Option.some.injEq, exists_eq_left', hkindI, hn2]
    have i1 : x + 1 ≤ n1 := by omega
    refine W.newArray_of (s := (mz T cA cI n1 n2 (defaultValue t2) x).setTop { f with stack := rest }) (by rw [hvm]; exact hkI) hkindI hl2 hb2 ?_ ?_ hfd (fun acts2 => ?_)
    · show (mz T cA cI n1 n2 (defaultValue t2) x).heap.size < _
      rw [a1]
      exact Nat.lt_of_lt_of_le (Nat.add_lt_add_left i1 _) hcells
    · show (mz T cA cI n1 n2 (defaultValue t2) x).slotsUsed + n2 ≤ _
      rw [a4, Nat.add_assoc, ← Nat.succ_mul]
      exact Nat.le_trans (Nat.add_le_add_left (Nat.mul_le_mul_right _ i1) _) hslots
    simp only [wp_bind', W.writeLoc, wp_pure']
    have ea : Array.size (T.setTop { f with stack := rest }).heap = T.heap.size := rfl
    have eb : Array.size ((mz T cA cI n1 n2 (defaultValue t2) x).setTop { f with stack := rest }).heap = T.heap.size + 1 + x := a1
    have hO : (mzO cA n1 T.heap.size x).slots.size = n1 := arrV_size _ _ _
    have lt : T.heap.size < ((mz T cA cI n1 n2 (defaultValue t2) x).setTop { f with stack := rest }).heap.size := by rw [eb, Nat.add_assoc]; exact Nat.lt_add_of_pos_right (by omega)
    refine ⟨mzO cA n1 T.heap.size x, ?_, (fun q => (by cases q)), (by rw [hO]; exact i1), ?_, ?_⟩
    · rw [ea, State.heap_pushCell_of_lt _ _ lt]
      exact a2
    · rw [eb]
      show State.fitsSlot _ cA .none x _ = true
      have hv2 : (mz T cA cI n1 n2 (defaultValue t2) x).vm.classes[cA]? = some kA := by rw [a3]; exact hkA
      simp [State.fitsSlot, State.slotType?, hv2, hkindA, hfr]
    · refine hnext _ _ _ ⟨x + 1, by rw [show n1 - (x + 1) = k by omega], i1, ?_⟩
      rw [ea, eb, mzO_s]
      show ((State.setTop _ _).pushCell _).setCell _ _ = (((mz T cA cI n1 n2 (defaultValue t2) x).pushCell (arrV cI n2 fun _ => defaultValue t2)).setCell T.heap.size (mzO cA n1 T.heap.size (x + 1))).setTop _
      rw [← arrV_new]
      rfl
  · rintro s' d' acts' ⟨i, hr', hi, rfl⟩
    have hin : n1 = i := by
      cases hq' : n1 - i with
      | zero => omega
      | succ k => rw [hq', List.range'_succ] at hr'; cases hr'
    subst hin
    have ht := (f0 n1).2.2.2.2.2 hs
    simp only [wp_pure', wp_bind', W.mark, W.pushRef, State.topJava?_setTop' _ ht, Option.some.injEq, exists_eq_left', State.setTop_setTop]
    exact hq _ _
end MUL
