/-! MULTIANEWARRAY, two dimensions: the rule -/
section MUL2
variable {p : Program} {l : Launch} {e : Env} {R : Room} {s : State} {m : MethodId} {args : Array Value} {below : List Frame} {meth : Method} {c : Code} {T : State} {H : Heap} {locs : List Loc} {cells slots : Nat} {Q : State → Prop}
variable {cA cI : ClassId} {n1 n2 : Nat} {dv : Value}
theorem mz_r : ∀ (i j : Nat), j < i → (mz T cA cI n1 n2 dv i).heap[T.heap.size + 1 + j]? = some (arrV cI n2 fun _ => dv) := by
  intro i
  induction i with
  | zero => intro j hj; omega
  | succ i ih =>
    intro j hj
    obtain ⟨a1, a2, a3, a4, a5, a6⟩ := mz_f (T := T) (cA := cA) (cI := cI) (n1 := n1) (n2 := n2) (dv := dv) i
    have hne : T.heap.size ≠ T.heap.size + 1 + j := by rw [Nat.add_assoc]; exact Nat.ne_of_lt (Nat.lt_add_of_pos_right (by omega))
    show (State.setCell _ _ _).heap[T.heap.size + 1 + j]? = _
    rw [heapAt_setCell_ne _ hne]
    by_cases hq : j = i
    · subst hq
      rw [← a1]
      exact State.heap_pushCell_size _ _
    · rw [State.heap_pushCell_of_lt _ _ (by rw [a1]; exact Nat.add_lt_add_left (by omega) _)]
      exact ih j (by omega)
theorem mz_X (X : Stand p l e R s m args below meth c T locs cells slots) : ∀ i : Nat, ∃ L, Stand p l e R s m args below meth c (mz T cA cI n1 n2 dv i) (locs ++ L) (cells + 1 + i) (slots + n1 + i * n2) ∧ ∀ x ∈ L, x.base = T.heap.size := by
  intro i
  induction i with
  | zero =>
    refine ⟨[], ?_, fun x hx => by cases hx⟩
    have := X.pushed (mzO cA n1 T.heap.size 0)
    rw [mzO, arrV_size] at this
    rw [List.append_nil, Nat.zero_mul]
    exact this
  | succ i ih =>
    obtain ⟨L, XL, hL⟩ := ih
    obtain ⟨a1, a2, a3, a4, a5, a6⟩ := mz_f (T := T) (cA := cA) (cI := cI) (n1 := n1) (n2 := n2) (dv := dv) i
    have X1 := XL.pushed (arrV cI n2 fun _ => dv)
    have lt : T.heap.size < (mz T cA cI n1 n2 dv i).heap.size := by rw [a1, Nat.add_assoc]; exact Nat.lt_add_of_pos_right (by omega)
    have hc : ((mz T cA cI n1 n2 dv i).pushCell (arrV cI n2 fun _ => dv)).heap[T.heap.size]? = some (mzO cA n1 T.heap.size i) := by
      rw [State.heap_pushCell_of_lt _ _ lt]; exact a2
    have X2 := X1.stored hc i (.ref (T.heap.size + 1 + i))
    rw [mzO_s, arrV_size, List.append_assoc] at X2
    refine ⟨L ++ [⟨T.heap.size, i⟩], ?_, fun x hx => ?_⟩
    · have e : slots + n1 + (i + 1) * n2 = slots + n1 + i * n2 + n2 := by rw [Nat.succ_mul, Nat.add_assoc (slots + n1)]
      rw [e]
      exact X2
    · rcases List.mem_append.mp hx with q | q
      · exact hL x q
      · rw [List.mem_singleton.mp q]
theorem multi_cold {E : CtlPost} {d : Bool} {acts : List Action} {f : JFrame} {Q : Unit → Pre} {index cc : Nat} {vm' : Vm} (hs : T.topJava?.isSome) (hg : (Jvm.resolveClass f.method.cls index).Gives e.toSetting T.vm (.ok cc) vm') (hr : vm'.classReady f.method.cls index cc)
    (hsz : vm'.classes.size ≤ T.vm.classes.size := by no_record) :
    wp (multianewarray.sem index 2) Q E e d acts (T.setTop f) ↔ wp (multianewarray.sem index 2) Q E e d acts ((T.setVm vm').setTop f) := by
  simp only [multianewarray.sem, wp_bind']
  exact W.resolveClassAt_transfer (s := T.setTop f) (State.method?_setTop f hs) hg hr
theorem W_multi {cc : ByteArray} (hexec : p.tables.exec = Jvm.exec) (hb : c.code = cc) {own C : String} {index : Nat} {t t2 : FieldType} {comp2 : ClassId} {kA kI : Class} (hown : s.vm.findClass own = some m.cls) (hclink : (Cond.classLink own index C).before args s = true) (hnA : s.vm.findClass C = some cA) (hkA : s.vm.classes[cA]? = some kA) (hkindA : kA.kind = .array cI t) (hkI : s.vm.classes[cI]? = some kI) (hkindI : kI.kind = .array comp2 t2)
    (href : fits t .null = true) (hfr : ∀ q, fits t (.ref q) = true) (hfd : fits t2 (defaultValue t2) = true) (hct : componentBytes t ≤ 8) (hct2 : componentBytes t2 ≤ 8)
    {g : JFrame} (hg : g.method = m) (hdg : decode cc g.pc = .ok (.multianewarray index 2, 4)) {m1 m2 : Int32} {rest : List Value} (hstack : g.stack = .int m2 :: .int m1 :: rest) (h1 : ¬ m1 < 0) (h2 : ¬ m2 < 0) (h0 : (m1 == 0) = false) (hn1 : m1.toNatClampNeg = n1) (hn2 : m2.toNatClampNeg = n2) (l1 : n1 ≤ 64) (l2 : n2 ≤ 64) (hcells : cells + 1 + n1 ≤ R.cells) (hslots : slots + n1 + n1 * n2 ≤ R.slots)
    (kk : ∀ (H1 : Heap) (L : List Loc), H1.size = H.size + 1 + n1 → H1[H.size]? = some (mzO cA n1 H.size n1) → (∀ j, j < n1 → H1[H.size + 1 + j]? = some (arrV cI n2 fun _ => defaultValue t2)) → (∀ q, q < H.size → H1[q]? = H[q]?) → (∀ x ∈ L, x.base = H.size) →
      W p l e R s m args below meth c H1 (locs ++ L) (cells + 1 + n1) (slots + n1 + n1 * n2) Q { g with pc := g.pc + 4, stack := .ref H.size :: rest }) : W p l e R s m args below meth c H locs cells slots Q g := by
  intro T hT X
  subst hT; subst hb; subst hg
  have hpl : e.platform.magicAccessors = ({} : Platform).magicAccessors := by rw [X.admits.platform]
  obtain ⟨cc', hfcc, hcl⟩ := Cond.classLink_spec hown hclink e.platform hpl
  cases hnA.symm.trans hfcc
  obtain ⟨hg₁, hwarm₁, hready₁⟩ := State.classEntry (e := e) X.warmed hcl
  generalize T.vm.noted g.method.cls index (.cls cA) = vm₁ at hg₁ hwarm₁ hready₁
  have hal : s.vm.Alike vm₁ := hwarm₁.alike
  obtain ⟨kA₁, hkA₁, heA⟩ := hal.2.2 _ _ hkA
  obtain ⟨kI₁, hkI₁, heI⟩ := hal.2.2 _ _ hkI
  have hkindA₁ : kA₁.kind = .array cI t := by rw [heA]; exact hkindA
  have hkindI₁ : kI₁.kind = .array comp2 t2 := by rw [heI]; exact hkindI
  have X₁ := X.noted hwarm₁
  obtain ⟨L, X₂, hL⟩ := mz_X (cA := cA) (cI := cI) (n1 := n1) (n2 := n2) (dv := defaultValue t2) X₁ n1
  obtain ⟨a1, a2, a3, a4, a5, a6⟩ := mz_f (T := T.setVm vm₁) (cA := cA) (cI := cI) (n1 := n1) (n2 := n2) (dv := defaultValue t2) n1
  have hr1 := X.cellsAbove (n := 1 + n1) (by omega)
  have hr2 := X.slotsAbove (n := n1 + n1 * n2) (by omega)
  obtain ⟨t', b1, b2⟩ := kk (mz (T.setVm vm₁) cA cI n1 n2 (defaultValue t2) n1).heap L a1 a2 (fun j hj => mz_r n1 j hj) a5 hL _ rfl X₂
  refine ⟨t', ?_, b2⟩
  jvm_step X.here [hexec, hdg]
  rw [multi_cold (e := e) (T := T) (f := g) X.here.top hg₁ hready₁]
  have big : ∀ x y : Nat, x ≤ 64 → y ≤ 8 → x * y ≤ 512 := fun x y hx hy => Nat.mul_le_mul hx hy
  refine multi_wp (T := T.setVm vm₁) (f := g) (n1 := n1) (n2 := n2) (cA := cA) (cI := cI) (kA := kA₁) (kI := kI₁) X.here.top hready₁ hkA₁ hkindA₁ href hfr hkI₁ hkindI₁ hfd hstack h1 h2 h0 hn1 hn2 ?_ ?_ ?_ ?_ ?_ ?_ (fun d' acts' => ?_)
  · rw [Launch.admits_arrayLengthLimit X.admits]; omega
  · rw [Launch.admits_arrayLengthLimit X.admits]; omega
  · rw [Launch.admits_maxHeapBytes X.admits]; have := big n1 _ l1 hct; omega
  · rw [Launch.admits_maxHeapBytes X.admits]; have := big n2 _ l2 hct2; omega
  · show T.heap.size + 1 + n1 ≤ _
    rw [Nat.add_assoc]; exact hr1
  · show T.slotsUsed + n1 + n1 * n2 ≤ _
    rw [Nat.add_assoc]; exact hr2
  · intro acts
    rw [afterInstr_ok]
    exact b1
end MUL2
/-- an array of n1 arrays of n2 zeros -/
def mk2 (μ : tm_M) (kO kI : Nat) (n1 n2 : Int) : tm_M := (tm_z μ + 1 + n1, fun a => if a < tm_z μ then tm_k μ a else if a = tm_z μ then kO else kI, fun a => if a < tm_z μ then tm_n μ a else if a = tm_z μ then n1 else n2, fun a j => if a < tm_z μ then tm_v μ a j else if a = tm_z μ ∧ 0 ≤ j ∧ j < n1 then tm_z μ + 1 + j else 0)
section MUL3
variable {M : tM} {d mc ms : Nat} {F : tF} {pc : Nat} {L : tLs} {S : tSt} {μ : tm_M} {nc ns : Nat} {kO kI : Nat} {n1 n2 : Int}
theorem mk2_z : tm_z (mk2 μ kO kI n1 n2) = tm_z μ + 1 + n1 := rfl
theorem mk2_k (a : Int) : tm_k (mk2 μ kO kI n1 n2) a = if a < tm_z μ then tm_k μ a else if a = tm_z μ then kO else kI := rfl
theorem mk2_n (a : Int) : tm_n (mk2 μ kO kI n1 n2) a = if a < tm_z μ then tm_n μ a else if a = tm_z μ then n1 else n2 := rfl
theorem mk2_v (a j : Int) : tm_v (mk2 μ kO kI n1 n2) a j = if a < tm_z μ then tm_v μ a j else if a = tm_z μ ∧ 0 ≤ j ∧ j < n1 then tm_z μ + 1 + j else 0 := rfl
def ad2 (ad : Int → Nat) (z : Int) (b : Nat) : Int → Nat := fun a => if a < z then ad a else b + (a - z).toNat
def ca2 (ca : Int → ClassId) (z : Int) (cA cI : ClassId) : Int → ClassId := fun a => if a < z then ca a else if a = z then cA else cI
theorem tR.m2 {D : va_G} {A : Nat → Prop} {s : State} {ad : Int → Nat} {ca : Int → ClassId} {H H1 : Heap} {cA cI : ClassId} (hR : tR D A s ad ca μ H) (hk : (kO = 30 ∧ kI = 20) ∨ (kO = 31 ∧ kI = 21)) (hn1 : 1 ≤ n1 ∧ n1 ≤ 64) (hn2 : 0 ≤ n2 ∧ n2 ≤ 64)
    (hA : ∀ q, H.size ≤ q → A q) (hO : ArrOfT s cA (tt_ty kO 0) ∧ va_RA s cA (tt_ty kO 0)) (hI : ArrOfT s cI (tt_ty kI 0) ∧ va_RA s cI (tt_ty kI 0))
    (h1 : H1[H.size]? = some (mzO cA n1.toNat H.size n1.toNat)) (h2 : ∀ j, j < n1.toNat → H1[H.size + 1 + j]? = some (arrV cI n2.toNat fun _ => defaultValue (tt_ty kI 0))) (h3 : ∀ q, q < H.size → H1[q]? = H[q]?) :
    tR D A s (ad2 ad (tm_z μ) H.size) (ca2 ca (tm_z μ) cA cI) (mk2 μ kO kI n1 n2) H1 := by
  obtain ⟨⟨z1, w⟩, hP, hD, hC⟩ := id hR
  have kO20 : 20 ≤ kO ∧ kO < 32 := by omega
  have kI20 : 20 ≤ kI ∧ kI < 32 := by omega
  have tO : tt_t kO 0 = 2 := by rcases hk with ⟨rfl, rfl⟩ | ⟨rfl, rfl⟩ <;> rfl
  have tI : ∀ j, (tt_t kI j = 0 ∨ tt_t kI j = 1) := by intro j; rcases hk with ⟨rfl, rfl⟩ | ⟨rfl, rfl⟩; exact Or.inl rfl; exact Or.inr rfl
  have tOj : ∀ j, tt_t kO j = 2 := by intro j; rcases hk with ⟨rfl, rfl⟩ | ⟨rfl, rfl⟩ <;> rfl
  have Z : tm_z (mk2 μ kO kI n1 n2) = tm_z μ + 1 + n1 := rfl
  have eo : ∀ b, b < tm_z μ → te_e (ad2 ad (tm_z μ) H.size) (ca2 ca (tm_z μ) cA cI) (mk2 μ kO kI n1 n2) b = te_e (ad2 ad (tm_z μ) H.size) (ca2 ca (tm_z μ) cA cI) μ b := by
    intro b hb
    have v1 : tm_v (mk2 μ kO kI n1 n2) b = tm_v μ b := by funext j; rw [mk2_v, if_pos hb]
    unfold te_e
    rw [mk2_k, mk2_n, v1, if_pos hb, if_pos hb]
  have em : ∀ b, 1 ≤ b → b < tm_z μ → te_e (ad2 ad (tm_z μ) H.size) (ca2 ca (tm_z μ) cA cI) μ b = te_e ad ca μ b := fun b b1 b2 => te_em (z := tm_z μ) z1 (fun a ha => by unfold ad2; rw [if_pos ha]) (by unfold ca2; rw [if_pos b2]) ((w b b1 b2).2)
  have at_ : ∀ (i : Nat) (q : Nat × va_E), (te_w (ad2 ad (tm_z μ) H.size) (ca2 ca (tm_z μ) cA cI) (mk2 μ kO kI n1 n2))[i]? = some q → ∃ a : Int, a = (i : Int) + 1 ∧ a < tm_z μ + 1 + n1 ∧ q = (ad2 ad (tm_z μ) H.size a, te_e (ad2 ad (tm_z μ) H.size) (ca2 ca (tm_z μ) cA cI) (mk2 μ kO kI n1 n2) a) := by
    intro i q hi
    have hl : i < (tm_z (mk2 μ kO kI n1 n2) - 1).toNat := by
      have := (List.getElem?_eq_some_iff.mp hi).1
      rw [te_w_len] at this
      exact this
    rw [Z] at hl
    have e1 := te_w_at (ad2 ad (tm_z μ) H.size) (ca2 ca (tm_z μ) cA cI) (mk2 μ kO kI n1 n2) (a := (i : Int) + 1) (by omega) (by rw [Z]; omega)
    rw [show ((i : Int) + 1 - 1).toNat = i by omega] at e1
    exact ⟨(i : Int) + 1, rfl, by omega, Option.some.inj (hi.symm.trans e1)⟩
  have old : ∀ a : Int, 1 ≤ a → a < tm_z μ → (te_w ad ca μ)[(a - 1).toNat]? = some (ad a, te_e ad ca μ a) := fun a a1 a2 => te_w_at ad ca μ a1 a2
  have lt : ∀ a : Int, 1 ≤ a → a < tm_z μ → ad a < H.size := fun a a1 a2 => (hP _ _ (old a a1 a2)).lt
  have adn : ∀ a : Int, ¬ a < tm_z μ → ad2 ad (tm_z μ) H.size a = H.size + (a - tm_z μ).toNat := fun a ha => by unfold ad2; rw [if_neg ha]
  have ado : ∀ a : Int, a < tm_z μ → ad2 ad (tm_z μ) H.size a = ad a := fun a ha => by unfold ad2; rw [if_pos ha]
  refine ⟨⟨by rw [Z]; omega, fun a a1 a2 => ?_⟩, fun i q hi => ?_, ⟨fun i j p q hi hj he => ?_, fun i q hi => ?_⟩, fun a a1 a2 a3 => ?_⟩
  · rw [Z] at a2
    rw [mk2_k, mk2_n, Z]
    by_cases c1 : a < tm_z μ
    · rw [if_pos c1, if_pos c1]
      refine ⟨(w a a1 c1).1, fun j => ?_⟩
      rw [mk2_v, if_pos c1]
      exact tr_up (by omega) ((w a a1 c1).2 j)
    · rw [if_neg c1, if_neg c1]
      by_cases c2 : a = tm_z μ
      · rw [if_pos c2, if_pos c2]
        refine ⟨Or.inr ⟨kO20.1, kO20.2, by omega, by omega⟩, fun j => ?_⟩
        rw [mk2_v, if_neg c1, tOj]
        split
        · rename_i c3
          show 0 ≤ tm_z μ + 1 + j ∧ tm_z μ + 1 + j < tm_z μ + 1 + n1
          omega
        · show (0 : Int) ≤ 0 ∧ (0 : Int) < tm_z μ + 1 + n1
          omega
      · rw [if_neg c2, if_neg c2]
        refine ⟨Or.inr ⟨kI20.1, kI20.2, by omega, by omega⟩, fun j => ?_⟩
        rw [mk2_v, if_neg c1, if_neg (fun q => c2 q.1)]
        rcases tI j.toNat with q | q
        · rw [q]; show (-2147483648 : Int) ≤ 0 ∧ (0 : Int) ≤ 2147483647; omega
        · rw [q]; show (-9223372036854775808 : Int) ≤ 0 ∧ (0 : Int) ≤ 9223372036854775807; omega
  · obtain ⟨a, ha, a2, rfl⟩ := at_ i q hi
    by_cases c1 : a < tm_z μ
    · rw [eo a c1, em a (by omega) c1, ado a c1]
      exact (hP _ _ (old a (by omega) c1)).kept (h3 _ (lt a (by omega) c1))
    · rw [adn a c1]
      by_cases c2 : a = tm_z μ
      · have e1 : te_e (ad2 ad (tm_z μ) H.size) (ca2 ca (tm_z μ) cA cI) (mk2 μ kO kI n1 n2) a = .inl (cA, n1.toNat, .inr (.inr (.inr (.inr fun j : Nat => te_r (ad2 ad (tm_z μ) H.size) (if a = tm_z μ ∧ (0 : Int) ≤ j ∧ (j : Int) < n1 then tm_z μ + 1 + j else 0))))) := by
          rw [te_ea (ci := kO) (by rw [mk2_k, if_neg c1, if_pos c2]) kO20.1, tO, mk2_n, if_neg c1, if_pos c2]
          have : ca2 ca (tm_z μ) cA cI a = cA := by unfold ca2; rw [if_neg c1, if_pos c2]
          rw [this]
          unfold te_c
          simp only [mk2_v, if_neg c1]
        rw [e1]
        show H1[H.size + (a - tm_z μ).toNat]? = some (vp_cell _ _)
        rw [vp_cell_q, show (a - tm_z μ).toNat = 0 by omega, Nat.add_zero, h1]
        unfold mzO
        congr 2
        funext j
        by_cases c3 : j < n1.toNat
        · rw [if_pos c3, if_pos ⟨c2, by omega, by omega⟩, va_rfr _ (by omega), adn _ (by omega)]
          rw [show (tm_z μ + 1 + (j : Int) - tm_z μ).toNat = 1 + j by omega, Nat.add_assoc]
        · rw [if_neg c3, if_neg (fun q => c3 (by omega))]
          rfl
      · have e1 : te_e (ad2 ad (tm_z μ) H.size) (ca2 ca (tm_z μ) cA cI) (mk2 μ kO kI n1 n2) a = .inl (cI, n2.toNat, te_c (ad2 ad (tm_z μ) H.size) (tt_t kI 0) (fun _ => 0)) := by
          rw [te_ea (ci := kI) (by rw [mk2_k, if_neg c1, if_neg c2]) kI20.1, mk2_n, if_neg c1, if_neg c2]
          have : ca2 ca (tm_z μ) cA cI a = cI := by unfold ca2; rw [if_neg c1, if_neg c2]
          have v0 : tm_v (mk2 μ kO kI n1 n2) a = fun _ => 0 := by funext j; rw [mk2_v, if_neg c1, if_neg (fun q => c2 q.1)]
          rw [this, v0]
        rw [e1]
        show H1[H.size + (a - tm_z μ).toNat]? = some (vp_cell _ _)
        rw [show H.size + (a - tm_z μ).toNat = H.size + 1 + (a - tm_z μ - 1).toNat by omega, h2 _ (by omega)]
        rcases hk with ⟨rfl, rfl⟩ | ⟨rfl, rfl⟩ <;> rfl
  · obtain ⟨a, ha, a2, rfl⟩ := at_ i p hi
    obtain ⟨b, hb, b2, rfl⟩ := at_ j q hj
    have he : ad2 ad (tm_z μ) H.size a = ad2 ad (tm_z μ) H.size b := he
    by_cases c1 : a < tm_z μ <;> by_cases c2 : b < tm_z μ
    · rw [ado a c1, ado b c2] at he
      have := hD.1 _ _ _ _ (old a (by omega) c1) (old b (by omega) c2) he
      omega
    · rw [ado a c1, adn b c2] at he
      have := lt a (by omega) c1
      omega
    · rw [adn a c1, ado b c2] at he
      have := lt b (by omega) c2
      omega
    · rw [adn a c1, adn b c2] at he
      omega
  · obtain ⟨a, ha, a2, rfl⟩ := at_ i q hi
    show A (ad2 ad (tm_z μ) H.size a)
    by_cases c1 : a < tm_z μ
    · rw [ado a c1]
      exact hD.2 _ _ (old a (by omega) c1)
    · rw [adn a c1]
      exact hA _ (Nat.le_add_right _ _)
  · rw [Z] at a2
    rw [mk2_k] at a3 ⊢
    by_cases c1 : a < tm_z μ
    · rw [if_pos c1] at a3 ⊢
      have : ca2 ca (tm_z μ) cA cI a = ca a := by unfold ca2; rw [if_pos c1]
      rw [this]
      exact hC a a1 c1 a3
    · rw [if_neg c1] at a3 ⊢
      by_cases c2 : a = tm_z μ
      · rw [if_pos c2]
        have : ca2 ca (tm_z μ) cA cI a = cA := by unfold ca2; rw [if_neg c1, if_pos c2]
        rw [this]
        exact hO
      · rw [if_neg c2]
        have : ca2 ca (tm_z μ) cA cI a = cI := by unfold ca2; rw [if_neg c1, if_neg c2]
        rw [this]
        exact hI
end MUL3
section MUL4
variable {M : tM} {d mc ms : Nat} {F : tF} {pc : Nat} {L : tLs} {S : tSt} {μ : tm_M} {nc ns : Nat} {kO kI : Nat} {n1 n2 : Int}
theorem g_multi {idx : Nat} {C : String} (hd : decode M.2.1 pc = .ok (.multianewarray idx 2, 4)) (hk : (kO = 30 ∧ kI = 20) ∨ (kO = 31 ∧ kI = 21)) (hC : C = "[" ++ (FieldType.array (tt_ty kI 0)).toString) (hq : Cond.classLink M.1.cls idx C ∈ lw_all) (hq1 : Cond.arrayOver (.array (tt_ty kI 0)) ∈ lw_tbl) (hq2 : Cond.arrayClass (tt_ty kI 0) ∈ lw_all) (hn1 : 1 ≤ n1 ∧ n1 ≤ 64) (hn2 : 0 ≤ n2 ∧ n2 ≤ 64) (h1 : nc + 1 + n1.toNat ≤ mc) (h2 : ns + n1.toNat + n1.toNat * n2.toNat ≤ ms)
    (h : tH M d mc ms F (pc + 4) L ((2, tm_z μ) :: S) (mk2 μ kO kI n1 n2) (nc + 1 + n1.toNat) (ns + n1.toNat + n1.toNat * n2.toNat)) : tH M d mc ms F pc L ((0, n2) :: (0, n1) :: S) μ nc ns := by
  intro p l e R s m args below meth c D A sp ad0 z0 O ad ca H locs ls hg hR hS hL hT hl
  have hz := hR.1.1
  have hrm := O.rm
  have k2 := ts_h hT
  have k1 := ts_h (ts_t hT)
  have hov : ∃ (cI cA : ClassId) (kA : Class), s.vm.findClass (FieldType.array (tt_ty kI 0)).toString = some cI ∧ s.vm.classes[cA]? = some kA ∧ kA.kind = .array cI (.array (tt_ty kI 0)) ∧ s.vm.findClass ("[" ++ (FieldType.array (tt_ty kI 0)).toString) = some cA := by
    obtain ⟨s0, b, ht, -, -, -, hW, -⟩ := O.B
    obtain ⟨cI, cA, kA, f1, -, f2, f3, f4⟩ := arrayOverA_spec (ht _ hq1)
    obtain ⟨kA', g1, g2⟩ := hW.alike.2.2 _ _ f2
    exact ⟨cI, cA, kA', by rw [hW.alike.findClass]; exact f1, g1, by rw [g2]; exact f3, by rw [hW.alike.findClass]; exact f4⟩
  obtain ⟨cI, cA, kA, hnI, hkA, hkindA, hnA⟩ := hov
  obtain ⟨cI', kI', comp2, hnI', hkI, hkindI⟩ := Cond.arrayClass_spec (O.ts _ hq2)
  have eI : cI' = cI := Option.some.inj (hnI'.symm.trans hnI)
  subst eI
  have hO : ArrOfT s cA (tt_ty kO 0) ∧ va_RA s cA (tt_ty kO 0) := by
    have e : tt_ty kO 0 = .array (tt_ty kI 0) := by rcases hk with ⟨rfl, rfl⟩ | ⟨rfl, rfl⟩ <;> rfl
    rw [e]
    exact ⟨fun N z => ⟨(fun k h => by cases h), kA, hkA, cI', hkindA⟩, hnA⟩
  have hI : ArrOfT s cI' (tt_ty kI 0) ∧ va_RA s cI' (tt_ty kI 0) := by
    refine ⟨fun N z => ⟨(fun k h => by cases h), kI', hkI, comp2, hkindI⟩, ?_⟩
    rcases hk with ⟨rfl, rfl⟩ | ⟨rfl, rfl⟩ <;> exact hnI'
  have nonneg : ∀ x : Int, tr_s (tm_z μ) 0 x → 0 ≤ x → ¬ Int32.ofInt x < 0 := fun x hx h0 => by
    rw [c_0, c_lt hx (c_k0 _)]; omega
  refine W_multi (t := .array (tt_ty kI 0)) (t2 := tt_ty kI 0) (C := C) (n1 := n1.toNat) (n2 := n2.toNat) (m1 := Int32.ofInt n1) (m2 := Int32.ofInt n2) O.x O.b O.own (O.ts _ hq) (by rw [hC]; exact hnA) hkA hkindA hkI hkindI rfl (fun _ => rfl) ?_ (show 4 ≤ 8 by decide) ?_ rfl hd rfl (nonneg n1 k1 (by omega)) (nonneg n2 k2 hn2.1) ?_ (ti_cl k1 (by omega)) (ti_cl k2 hn2.1) (by omega) (by omega) (by omega) (by omega) (fun H1 L1 f1 f2 f3 f4 f5 => ?_)
  · rcases hk with ⟨rfl, rfl⟩ | ⟨rfl, rfl⟩ <;> rfl
  · rcases hk with ⟨rfl, rfl⟩ | ⟨rfl, rfl⟩ <;> decide
  · have : ¬ Int32.ofInt n1 = 0 := fun q => by
      have := (c_eq k1 (c_k0 (tm_z μ))).mp q
      omega
    exact beq_eq_false_iff_ne.mpr this
  · have hAA : ∀ q, H.size ≤ q → A q := fun q hq => O.hA q (Nat.le_trans hS.1 hq)
    have hR' := hR.m2 hk hn1 hn2 hAA hO hI f2 f3 f4
    have hg' : tg sp ad0 z0 (ad2 ad (tm_z μ) H.size) (mk2 μ kO kI n1 n2) := by
      obtain ⟨g1, g2, g3, g4⟩ := hg
      refine ⟨fun a ha => ?_, fun a ha => ?_, by rw [mk2_z]; omega, g4⟩
      · unfold ad2; rw [if_pos (by omega)]; exact g1 a ha
      · unfold ad2; rw [if_pos (by omega)]; exact g2 a ha
    have up : ∀ τ x, tr_s (tm_z μ) τ x → tr_s (tm_z (mk2 μ kO kI n1 n2)) τ x := fun τ x hx => tr_sup (by rw [mk2_z]; omega) hx
    have mv : ∀ τ x, tr_s (tm_z μ) τ x → te_v (ad2 ad (tm_z μ) H.size) τ x = te_v ad τ x := fun τ x hx => te_v_moved (z := tm_z μ) (by omega) (fun a ha => by unfold ad2; rw [if_pos ha]) hx.2
    have hS' : va_S A s.heap H1 (locs ++ L1) := by
      refine ⟨Nat.le_trans hS.1 (by rw [f1]; omega), fun q q1 q2 => (f4 q (Nat.lt_of_lt_of_le q1 hS.1)).trans (hS.2.1 q q1 q2), fun x hx => ?_⟩
      rcases List.mem_append.mp hx with r | r
      · exact hS.2.2 x r
      · rw [f5 x r]; exact hAA _ (Nat.le_refl _)
    have k3 := h p l e R s m args below meth c D A sp ad0 z0 O (ad2 ad (tm_z μ) H.size) (ca2 ca (tm_z μ) cA cI') H1 (locs ++ L1) ls hg' hR' hS' (fun r hr => up _ _ (hL r hr)) (ts_c (tr_k rfl (by rw [mk2_z]; show 0 ≤ tm_z μ ∧ tm_z μ < tm_z μ + 1 + n1; omega)) (fun r hr => up _ _ (ts_t (ts_t hT) r hr))) (by
      have : (L.map fun q => (q.1, te_v (ad2 ad (tm_z μ) H.size) q.2.1 q.2.2)) = L.map fun q => (q.1, te_v ad q.2.1 q.2.2) := List.map_congr_left fun r hr => by rw [mv _ _ (hL r hr)]
      rw [this]
      exact hl)
    refine W.eq ?_ k3
    show F0 m (pc + 4) ls (.ref H.size :: _) = F0 m (pc + 4) ls (te_v (ad2 ad (tm_z μ) H.size) 2 (tm_z μ) :: _)
    have eS : (S.map fun q => te_v (ad2 ad (tm_z μ) H.size) q.1 q.2) = S.map fun q => te_v ad q.1 q.2 := List.map_congr_left fun r hr => mv _ _ (ts_t (ts_t hT) r hr)
    rw [eS]
    congr 2
    show _ = va_rf (te_r (ad2 ad (tm_z μ) H.size) (tm_z μ))
    rw [va_rfr _ hz]
    unfold ad2
    rw [if_neg (by omega), show (tm_z μ - tm_z μ).toNat = 0 by omega]
    rfl
end MUL4
