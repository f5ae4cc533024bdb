/-! EXCEPTIONS: the words that the machine's faults ask -/
def t_isS (w : Cond) : Bool := decide (w = Cond.isRef (.static Bundle.tN "UNASSIGNED_STACK" Bundle.steD)) || decide (w = Cond.isRef (.static Bundle.tN "SUPPRESSED_SENTINEL" Bundle.listD))
def t_wd (w : Cond) : Bool := match w with
  | .castable .. | .declares _ | .laysStatic .. | .arrayClass _ => true
  | w => w.onTables && w.keepsH
def t_inA (ws : List Cond) : Bool := ws.all fun w => (decide (w ∈ lw_tbl) && t_wd w) || t_isS w
theorem t_nA : t_inA (Bundle.npeArmAtoms 8) = true := by decide +kernel
theorem t_mA1 : t_inA (Bundle.messageArmAtoms "java/lang/NegativeArraySizeException" ["java/lang/RuntimeException", "java/lang/Exception"]) = true := by decide +kernel
theorem t_mA2 : t_inA (Bundle.messageArmAtoms Bundle.idxN Bundle.idxUp) = true := by decide +kernel
theorem t_sA : (flatC (Jvm.Cond.and given_1 narrow_1)).contains (Cond.isRef (.static Bundle.tN "UNASSIGNED_STACK" Bundle.steD)) = true ∧ (flatC (Jvm.Cond.and given_1 narrow_1)).contains (Cond.isRef (.static Bundle.tN "SUPPRESSED_SENTINEL" Bundle.listD)) = true := by decide +kernel
section TWD
variable {p : Program} {l : Launch} {e : Env} {R : Room} {s : State} {m : MethodId} {args : Array Value} {meth : Method} {c : Code} {D : va_G} {A : Nat → Prop} {sp : Int → Nat} {M : tM} {d mc ms : Nat}
theorem tO.wd (h : tO p l e R s m args meth c D A sp M d mc ms) {w : Cond} (hw : w ∈ lw_tbl) (h1 : t_wd w = true) : w.before args s = true := by
  unfold t_wd at h1
  split at h1
  · exact h.N hw rfl (fun _ _ hW hZ => va_Nw.warmC hW hZ)
  · exact h.N hw rfl (fun _ _ hW hZ => va_Nw.warmD hW hZ)
  · obtain ⟨s0, b, ht, -, -, -, hW, -, ho, -⟩ := h.B
    obtain ⟨c1, k, i, f, a, cell, hc, hi, hst, ha, hcell, hs, hcls, hlt, hty⟩ := Cond.laysStatic_spec (ht _ hw)
    obtain ⟨k', hi', hek⟩ := State.fieldFound?_setVm (s := s0) hW.alike hi
    have hlt0 : a < s0.heap.size := (Array.getElem?_eq_some_iff.mp hcell).1
    exact Cond.laysStatic_of (s := s) (by rw [hW.alike.findClass]; exact hc) hi' hst (by rw [hek]; exact ha) (by rw [ho a hlt0]; exact hcell) hs hcls hlt (by rw [hek]; exact hty)
  · obtain ⟨s0, b, ht, -, -, -, hW, -⟩ := h.B
    exact word_at hW (Or.inr ⟨_, rfl⟩) (ht _ hw)
  · simp only [Bool.and_eq_true] at h1
    exact h.tb hw h1.1 h1.2
theorem tO.st (h : tO p l e R s m args meth c D A sp M d mc ms) {w : Cond} (hw : t_isS w = true) : w.before args s = true := by
  obtain ⟨s0, b, -, hn, -, -, hW, -, ho, -⟩ := h.B
  unfold t_isS at hw
  simp only [Bool.or_eq_true, decide_eq_true_eq] at hw
  have k1 : (Cond.isRef (.static Bundle.tN "UNASSIGNED_STACK" Bundle.steD)) ∈ flatC (Jvm.Cond.and given_1 narrow_1) := by simpa using t_sA.1
  have k2 : (Cond.isRef (.static Bundle.tN "SUPPRESSED_SENTINEL" Bundle.listD)) ∈ flatC (Jvm.Cond.and given_1 narrow_1) := by simpa using t_sA.2
  rcases hw with rfl | rfl
  · exact (t_stat hW ho (flat_of_before _ hn _ k1)).1
  · exact (t_stat hW ho (flat_of_before _ hn _ k2)).1
theorem tO.at (h : tO p l e R s m args meth c D A sp M d mc ms) {ws : List Cond} (hw : t_inA ws = true) : ∀ w ∈ ws, w.before args s = true := by
  intro w hm
  have := List.all_eq_true.mp hw w hm
  simp only [Bool.or_eq_true, Bool.and_eq_true, decide_eq_true_eq] at this
  rcases this with ⟨h1, h2⟩ | h1
  · exact h.wd h1 h2
  · exact h.st h1
theorem tO.lc (h : tO p l e R s m args meth c D A sp M d mc ms) {locs : List Loc} (hl : ∀ q ∈ locs, A q.base) : ∀ (cf : ClassId) (k : Class) (i : Nat) (f : Field) (a : Nat), s.fieldFound? Bundle.tN "UNASSIGNED_STACK" Bundle.steD = some (cf, k, i, f) → k.statics = some a → ∀ x ∈ locs, x.base ≠ a := by
  intro cf k i f a h1 h2 x hx e1
  obtain ⟨s0, b, -, hn, -, hA, hW, -, ho, -⟩ := h.B
  have k1 : (Cond.isRef (.static Bundle.tN "UNASSIGNED_STACK" Bundle.steD)) ∈ flatC (Jvm.Cond.and given_1 narrow_1) := by simpa using t_sA.1
  have k2 := (t_stat (a1 := #[]) hW ho (flat_of_before _ hn _ k1)).2 cf k i f a h1 h2
  have k3 := (hA _).mp (hl x hx)
  rw [e1] at k3
  exact absurd k2 (Nat.not_lt.mpr k3)
end TWD
theorem tThr.widen {p : Program} {l : Launch} {e : Env} {R : Room} {s : State} {m : MethodId} {args : Array Value} {below : List Frame} {meth : Method} {c : Code} {T' : State} {locs : List Loc} {cells slots : Nat} {C : String} {g : JFrame} {msg : Option String} {n k k' : Nat} (h : tThr p l e R s m args below meth c T' locs cells slots C g msg n k) (hk : k ≤ k') : tThr p l e R s m args below meth c T' locs cells slots C g msg n k' := by
  obtain ⟨T2, L, a, cell, X, h2⟩ := h
  exact ⟨T2, L, a, cell, stand_widen X (Nat.le_refl _) (by omega), h2⟩
section TF
variable {M : tM} {d mc ms : Nat} {F : tF} {pc : Nat} {L : tLs} {μ : tm_M} {nc ns : Nat}
variable {p : Program} {l : Launch} {e : Env} {R : Room} {s : State} {m : MethodId} {args : Array Value} {below : List Frame} {meth : Method} {c : Code} {D : va_G} {A : Nat → Prop} {sp ad0 : Int → Nat} {z0 : Int} {ad : Int → Nat} {ca : Int → ClassId} {H : Heap} {locs : List Loc} {ls : Array Slot} {st : List Value} {T : State}
/-- a fault for want of an object -/
theorem t_fN (h : tT M d mc ms F pc L (tm_z μ) (tm_a μ 13 0) (nc + 1) (ns + 8)) (h1 : nc + 1 ≤ mc) (h2 : ns + 8 ≤ ms) (hst : st.length ≤ 100) (O : tO p l e R s m args meth c D A sp M d mc ms) (hg : tg sp ad0 z0 ad μ) (hR : tR D A s ad ca μ H) (hS : va_S A s.heap H locs) (hL : ∀ q ∈ L, tr_s (tm_z μ) q.2.1 q.2.2)
    (hl : lv_has ls M.2.2.1 (L.map fun q => (q.1, te_v ad q.2.1 q.2.2))) (hH : T.heap = H) (X : Stand p l e R s m args below meth c T locs nc ns) {g : JFrame}
    (hf : ∀ target, Steps p.tables e below ((T.setTop (F0 m pc ls st)).pushFrame (.throwNew "java/lang/NullPointerException" none none)) target → Steps p.tables e below (T.setTop g) target) : ∃ t, Steps p.tables e below (T.setTop g) t ∧ F below D A sp args s ad0 z0 t := by
  have hrm := O.rm
  have hcat : ∀ v : List Value, (v.map fun v => v.category).sum ≤ 2 * v.length := by
    intro v
    induction v with
    | nil => simp
    | cons a t ih => rcases lv_cat a with w | w <;> simp only [List.map_cons, List.sum_cons, List.length_cons, w] <;> omega
  have hx := t_npe X O.x (Launch.traces_off O.fl X.admits) (O.at t_nA) (O.lc hS.2.2) (g := F0 m pc ls st) rfl (by rw [O.ml]; exact hl.1) (by omega) (by have := hcat st; show 2 * 0 + (st.map fun v => v.category).sum + 10240 ≤ _; omega) (by omega) (by omega)
  obtain ⟨t, k1, k2⟩ := t_thr (T0 := TJ5) (k := 13) rfl (by decide) h O hg hR hS hL hl hH hx
  exact ⟨t, hf t k1, k2⟩
/-- a fault with a text of at most 800 bytes -/
theorem t_fM {C text : String} {names : List String} {T0 : u_T} {k : Nat} (hk : tc_cl[k]? = some (C, T0, 0)) (hk15 : k < 15) (hA : t_inA (Bundle.messageArmAtoms C names) = true) (hcls : Bundle.fit C = true) (hnames : ∀ n ∈ names, Bundle.fit n = true) (hsoe : (C == "java/lang/StackOverflowError") = false) (hoom : (C == "java/lang/OutOfMemoryError") = false) (hlen : names.length ≤ 3)
    (ht1 : (text == notModelled) = false) (ht2 : (stringBytes (stringToUtf16 text)).size ≤ 790)
    (h : tT M d mc ms F pc L (tm_z μ) (tm_a μ k 0) (nc + 3) (ns + 800)) (h1 : nc + 3 ≤ mc) (h2 : ns + 800 ≤ ms) (hst : st.length ≤ 100) (O : tO p l e R s m args meth c D A sp M d mc ms) (hg : tg sp ad0 z0 ad μ) (hR : tR D A s ad ca μ H) (hS : va_S A s.heap H locs) (hL : ∀ q ∈ L, tr_s (tm_z μ) q.2.1 q.2.2)
    (hl : lv_has ls M.2.2.1 (L.map fun q => (q.1, te_v ad q.2.1 q.2.2))) (hH : T.heap = H) (X : Stand p l e R s m args below meth c T locs nc ns) {g : JFrame}
    (hf : ∀ target, Steps p.tables e below ((T.setTop (F0 m pc ls st)).pushFrame (.throwNew C (some text) none)) target → Steps p.tables e below (T.setTop g) target) : ∃ t, Steps p.tables e below (T.setTop g) t ∧ F below D A sp args s ad0 z0 t := by
  have hrm := O.rm
  have hcat : ∀ v : List Value, (v.map fun v => v.category).sum ≤ 2 * v.length := by
    intro v
    induction v with
    | nil => simp
    | cons a t ih => rcases lv_cat a with w | w <;> simp only [List.map_cons, List.sum_cons, List.length_cons, w] <;> omega
  have hlim : ¬ (stringBytes (stringToUtf16 text)).size > e.platform.arrayLengthLimit := by
    have e1 : e.platform.arrayLengthLimit = ({} : Platform).arrayLengthLimit := by rw [X.admits.platform]
    have e2 : (790 : Nat) ≤ ({} : Platform).arrayLengthLimit := by decide
    omega
  have hmx : ¬ (stringBytes (stringToUtf16 text)).size * componentBytes .byte > e.platform.maxHeapBytes := by
    rw [Launch.admits_maxHeapBytes X.admits]
    simp only [componentBytes]
    omega
  have hx := t_msg X O.x (Launch.traces_off O.fl X.admits) (names := names) (text := text) hcls hnames hsoe hoom (O.at hA) (O.lc hS.2.2) ht1 hlim hmx (g := F0 m pc ls st) rfl (by rw [O.ml]; exact hl.1) (by omega) (by have := hcat st; show 2 * 0 + (st.map fun v => v.category).sum + 10240 ≤ _; omega) (by omega) (by omega) (by omega)
  obtain ⟨t, k1, k2⟩ := t_thr hk hk15 h O hg hR hS hL hl hH (hx.widen (by omega))
  exact ⟨t, hf t k1, k2⟩
end TF
