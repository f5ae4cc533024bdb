/-! RULES of the heap -/
theorem tw_wr {μ : tm_M} {a j x : Int} (hf : tw_f μ) (h : tr_ok (tm_z μ) (tt_t (tm_k μ a) j.toNat) x) : tw_f (tm_w μ a j x) := by
  refine ⟨hf.1, fun b h1 h2 => ⟨(hf.2 b h1 h2).1, fun i => ?_⟩⟩
  rw [tm_vw]
  split
  · rename_i e
    obtain ⟨rfl, rfl⟩ := e
    exact h
  · exact (hf.2 b h1 h2).2 i
theorem te_wo {ad : Int → Nat} {ca : Int → ClassId} {μ : tm_M} {a j x : Int} : ∀ b, b ≠ a → te_e ad ca (tm_w μ a j x) b = te_e ad ca μ b := by
  intro b hb
  have e : tm_v (tm_w μ a j x) b = tm_v μ b := by
    funext i
    rw [tm_vw, if_neg (fun q => hb q.1)]
  unfold te_e
  rw [e]
  rfl
theorem te_eo {ad : Int → Nat} {ca : Int → ClassId} {μ : tm_M} {a : Int} {ci : Nat} (hk : tm_k μ a = ci) (h : ci < 20) : te_e ad ca μ a = .inr (ci, (List.range (tt_nf ci)).map fun (j : Nat) => te_v ad (tt_t ci j) (tm_v μ a j)) := by
  unfold te_e
  rw [hk, if_pos h]
theorem te_ea {ad : Int → Nat} {ca : Int → ClassId} {μ : tm_M} {a : Int} {ci : Nat} (hk : tm_k μ a = ci) (h : 20 ≤ ci) : te_e ad ca μ a = .inl (ca a, (tm_n μ a).toNat, te_c ad (tt_t ci 0) (tm_v μ a)) := by
  unfold te_e
  rw [hk, if_neg (by omega)]
/-- the sort on the stack -/
def tt_s (τ : Nat) : Nat := match τ with
  | 1 => 1
  | 2 => 2
  | _ => 0
theorem te_vs (ad : Int → Nat) {τ : Nat} (x : Int) (h : τ < 6) : te_v ad (tt_s τ) x = te_v ad τ x := by
  rcases (show τ = 0 ∨ τ = 1 ∨ τ = 2 ∨ τ = 3 ∨ τ = 4 ∨ τ = 5 by omega) with rfl | rfl | rfl | rfl | rfl | rfl <;> rfl
theorem tr_st {z : Int} {τ : Nat} {x : Int} (h : τ < 6) (hx : tr_ok z τ x) : tr_s z (tt_s τ) x := by
  rcases (show τ = 0 ∨ τ = 1 ∨ τ = 2 ∨ τ = 3 ∨ τ = 4 ∨ τ = 5 by omega) with rfl | rfl | rfl | rfl | rfl | rfl
  · exact tr_k rfl hx
  · exact tr_k rfl hx
  · exact tr_k rfl hx
  · exact tr_k rfl (by have h1 : -128 ≤ x ∧ x ≤ 127 := hx; show -2147483648 ≤ x ∧ x ≤ 2147483647; omega)
  · exact tr_k rfl (by have h1 : -32768 ≤ x ∧ x ≤ 32767 := hx; show -2147483648 ≤ x ∧ x ≤ 2147483647; omega)
  · exact tr_k rfl (by have h1 : 0 ≤ x ∧ x ≤ 1 := hx; show -2147483648 ≤ x ∧ x ≤ 2147483647; omega)
theorem tt_f6 (ty : FieldType) : tt_f ty < 6 := by cases ty <;> simp [tt_f]
theorem tt_t6 (k j : Nat) : tt_t k j < 6 := tt_f6 _
/-- the types that are used -/
def tt_g : FieldType → Bool
  | .char => false
  | .float => false
  | .double => false
  | _ => true
theorem tn_b {x : Int} (h : 0 ≤ x ∧ x ≤ 1) : narrow .boolean (.int (Int32.ofInt x)) = .int (Int32.ofInt x) ∧ fits .boolean (.int (Int32.ofInt x)) = true := by
  rcases (show x = 0 ∨ x = 1 by omega) with rfl | rfl <;> exact ⟨rfl, rfl⟩
theorem tn_8 {x : Int} (h : -128 ≤ x ∧ x ≤ 127) : (Int32.ofInt x).toInt8.toInt32 = Int32.ofInt x := by
  rw [← Int32.toInt_inj, Int8.toInt_toInt32, Int32.toInt_toInt8, i32_t (by omega) (by omega)]
  exact Int.bmod_eq_of_le_mul_two (by omega) (by omega)
theorem tn_16 {x : Int} (h : -32768 ≤ x ∧ x ≤ 32767) : (Int32.ofInt x).toInt16.toInt32 = Int32.ofInt x := by
  rw [← Int32.toInt_inj, Int16.toInt_toInt32, Int32.toInt_toInt16, i32_t (by omega) (by omega)]
  exact Int.bmod_eq_of_le_mul_two (by omega) (by omega)
theorem tn_ok {ad : Int → Nat} {ty : FieldType} {z x : Int} (hg : tt_g ty = true) (h : tr_ok z (tt_f ty) x) : narrow ty (te_v ad (tt_f ty) x) = te_v ad (tt_f ty) x ∧ fits ty (te_v ad (tt_f ty) x) = true := by
  cases ty with
  | int => exact ⟨rfl, rfl⟩
  | long => exact ⟨rfl, rfl⟩
  | boolean => exact tn_b h
  | byte =>
    have h1 : -128 ≤ x ∧ x ≤ 127 := h
    refine ⟨congrArg Value.int (tn_8 h1), ?_⟩
    show ((-128 : Int32) ≤ Int32.ofInt x && Int32.ofInt x ≤ 127) = true
    have e1 : (-128 : Int32) ≤ Int32.ofInt x := by rw [Int32.le_iff_toInt_le, i32_t (by omega) (by omega)]; exact h1.1
    have e2 : Int32.ofInt x ≤ 127 := by rw [Int32.le_iff_toInt_le, i32_t (by omega) (by omega)]; exact h1.2
    simp [e1, e2]
  | short =>
    have h1 : -32768 ≤ x ∧ x ≤ 32767 := h
    refine ⟨congrArg Value.int (tn_16 h1), ?_⟩
    show ((-32768 : Int32) ≤ Int32.ofInt x && Int32.ofInt x ≤ 32767) = true
    have e1 : (-32768 : Int32) ≤ Int32.ofInt x := by rw [Int32.le_iff_toInt_le, i32_t (by omega) (by omega)]; exact h1.1
    have e2 : Int32.ofInt x ≤ 32767 := by rw [Int32.le_iff_toInt_le, i32_t (by omega) (by omega)]; exact h1.2
    simp [e1, e2]
  | object n =>
    show narrow (.object n) (va_rf (te_r ad x)) = va_rf (te_r ad x) ∧ fits (.object n) (va_rf (te_r ad x)) = true
    cases te_r ad x <;> exact ⟨rfl, rfl⟩
  | array t =>
    show narrow (.array t) (va_rf (te_r ad x)) = va_rf (te_r ad x) ∧ fits (.array t) (va_rf (te_r ad x)) = true
    cases te_r ad x <;> exact ⟨rfl, rfl⟩
  | char => cases hg
  | float => cases hg
  | double => cases hg
/-- a class by its number -/
def tcK (ci : Nat) (C : String) (T : u_T) (N : Nat) : Prop := tc_cl[ci]? = some (C, T, N) ∧ (∀ w ∈ u_ws C T N, w ∈ lw_all) ∧ (∀ k, k < N → parseFieldDescriptor (T k).2.2.1 = some (tt_ty ci k)) ∧ (∀ a, a < N → ∀ b, b < N → a ≠ b → (T a).2.1 ≠ (T b).2.1) ∧ ci < 15
theorem tcK.nf {ci : Nat} {C : String} {T : u_T} {N : Nat} (h : tcK ci C T N) : tt_nf ci = N := by
  unfold tt_nf
  rw [h.1]
/-- a field's link: own's entry idx is field k (of the sort τ) of the class ci -/
def tfl (own : String) (idx ci : Nat) (kI : Int) (τ : Nat) (fin : Bool) : Prop := ∃ (C : String) (T : u_T) (N : Nat) (ref : String) (k : Nat), (k : Int) = kI ∧ tcK ci C T N ∧ k < N ∧ tt_t ci k = τ ∧ tt_g (tt_ty ci k) = true ∧ (τ ≠ 3 ∧ τ ≠ 4) ∧ (T k).2.2.2 = fin ∧ (ref = (T k).1 ∨ Cond.sameField ref (T k).1 (T k).2.1 (T k).2.2.1 ∈ lw_all) ∧
  (Cond.fieldLink own idx ref (T k).2.1 (T k).2.2.1 ∈ lw_all ∨ ∃ host, Cond.fieldLinkNest own idx ref (T k).2.1 (T k).2.2.1 host ∈ lw_tbl)
/-- of a field that a maker alone may set -/
def tflF (own : String) (idx ci : Nat) (kI : Int) (τ : Nat) : Prop := ∃ (C : String) (T : u_T) (N : Nat) (k : Nat), (k : Int) = kI ∧ tcK ci C T N ∧ k < N ∧ tt_t ci k = τ ∧ tt_g (tt_ty ci k) = true ∧ (τ ≠ 3 ∧ τ ≠ 4) ∧ (T k).2.2.2 = true ∧ (T k).1 = own ∧ Cond.fieldLink own idx own (T k).2.1 (T k).2.2.1 ∈ lw_all
theorem tf_same {args : Array Value} {s : State} {ref ow n d : String} (ht : ∀ w ∈ lw_all, w.before args s = true) (h : ref = ow ∨ Cond.sameField ref ow n d ∈ lw_all) : ∀ x, s.fieldFound? ow n d = some x → s.fieldFound? ref n d = some x := by
  rcases h with rfl | h
  · exact fun _ q => q
  · exact u_same (ht _ h)
theorem va_rfr (ad : Int → Nat) {x : Int} (h : 1 ≤ x) : va_rf (te_r ad x) = .ref (ad x) := by
  unfold te_r
  rw [if_neg (by omega)]
  rfl
section HRULES
variable {M : tM} {d mc ms : Nat} {F : tF} {pc : Nat} {L : tLs} {S : tSt} {μ : tm_M} {nc ns : Nat}
theorem g_get {idx ci τ : Nat} {fin : Bool} {a kI : Int} (σ : Nat) (hd : decode M.2.1 pc = .ok (.getfield idx, 3)) (f : tfl M.1.cls idx ci kI τ fin) (hσ : tt_s τ = σ) (h1 : 1 ≤ a) (hk : tm_k μ a = ci) (h : tH M d mc ms F (pc + 3) L ((σ, tm_v μ a kI) :: S) μ nc ns) : tH M d mc ms F pc L ((2, a) :: S) μ nc ns := by
  intro p l e R s m args below meth c D A sp ad0 z0 O ad ca H locs ls hg hR hS hL hT hl
  obtain ⟨C, T, N, ref, k, hkI, K, hN, hτ, hgd, -, -, hsm, hlk⟩ := f
  subst hτ; subst hσ; subst hkI
  have ka := tr_r (ts_h hT)
  have hn0 : tm_n μ a = N := by
    rcases ((hR.1.2 a h1 ka.2).1) with q | q
    · rw [q.2, hk, K.nf]
    · have := K.2.2.2.2; omega
  have hv : tr_ok (tm_z μ) (tt_t ci k) (tm_v μ a k) := by
    have := (hR.1.2 a h1 ka.2).2 k
    rw [hk] at this
    exact this
  have k1 := h p l e R s m args below meth c D A sp ad0 z0 O ad ca H locs ls hg hR hS hL (ts_c (tr_st (tt_t6 _ _) hv) (ts_t hT)) hl
  have e0 : (te_w ad ca μ)[(a - 1).toNat]? = some (ad a, .inr (ci, (List.range (tt_nf ci)).map fun (j : Nat) => te_v ad (tt_t ci j) (tm_v μ a j))) := by
    rw [te_w_at ad ca μ h1 ka.2, te_eo hk (by have := K.2.2.2.2; omega)]
  have e1 : ((List.range (tt_nf ci)).map fun (j : Nat) => te_v ad (tt_t ci j) (tm_v μ a j))[k]? = some (te_v ad (tt_s (tt_t ci k)) (tm_v μ a k)) := by
    rw [List.getElem?_map, List.getElem?_range (by rw [K.nf]; exact hN), te_vs ad _ (tt_t6 _ _)]
    rfl
  refine W.eq (g2 := F0 m pc ls (.ref (ad a) :: S.map fun q => te_v ad q.1 q.2)) (by rw [← va_rfr ad h1]; rfl) ?_
  rcases hlk with q | ⟨host, q⟩
  · exact va_get O.x O.b O.ts K.2.1 O.own O.K hR.2.1 (a - 1).toNat e0 K.1 k hN (O.ts _ q) (tf_same O.ts hsm) e1 hd k1
  · exact va_getN O.x O.b O.ts K.2.1 O.own O.K hR.2.1 (a - 1).toNat e0 K.1 k hN (O.N q rfl (fun _ _ w z => va_Nw.warmF w z)) (tf_same O.ts hsm) e1 hd k1
theorem tR.wr {D : va_G} {A : Nat → Prop} {s : State} {ad : Int → Nat} {ca : Int → ClassId} {μ : tm_M} {H H1 : Heap} {a j x : Int} (hR : tR D A s ad ca μ H) (h1 : 1 ≤ a) (h2 : a < tm_z μ) (hx : tr_ok (tm_z μ) (tt_t (tm_k μ a) j.toNat) x)
    (hP : va_P D tc_cl ((te_w ad ca μ).set (a - 1).toNat (ad a, te_e ad ca (tm_w μ a j x) a)) H1) (hD : va_D A ((te_w ad ca μ).set (a - 1).toNat (ad a, te_e ad ca (tm_w μ a j x) a))) : tR D A s ad ca (tm_w μ a j x) H1 := by
  have e := te_w_set (ad := ad) (ca := ca) (μ := μ) (μ' := tm_w μ a j x) h1 h2 rfl te_wo
  rw [e] at hP hD
  exact ⟨tw_wr hR.1 hx, hP, hD, hR.2.2.2⟩
theorem te_oset {ad : Int → Nat} {μ : tm_M} {a x : Int} {ci k n : Nat} (hk : k < n) : ((List.range n).map fun (j : Nat) => te_v ad (tt_t ci j) (tm_v μ a j)).set k (te_v ad (tt_t ci k) x) = (List.range n).map fun (j : Nat) => te_v ad (tt_t ci j) (tm_v (tm_w μ a k x) a j) := by
  refine List.ext_getElem? fun i => ?_
  by_cases hi : i < n
  · by_cases e : i = k
    · subst e
      rw [List.getElem?_set_self (by simpa using hi), List.getElem?_map, List.getElem?_range hi]
      simp only [Option.map_some, tm_vw, and_self, if_true]
    · rw [List.getElem?_set_ne (fun q => e q.symm), List.getElem?_map, List.getElem?_map, List.getElem?_range hi]
      simp only [Option.map_some, tm_vw]
      rw [if_neg (by omega)]
  · rw [List.getElem?_eq_none (by simp; omega), List.getElem?_eq_none (by simp; omega)]

theorem g_put {idx ci τ : Nat} {a x kI : Int} {σ : Nat} (hd : decode M.2.1 pc = .ok (.putfield idx, 3)) (f : tfl M.1.cls idx ci kI τ false) (hσ : tt_s τ = σ) (h1 : 1 ≤ a) (hk : tm_k μ a = ci) (hx : τ = 5 → 0 ≤ x ∧ x ≤ 1) (h : tH M d mc ms F (pc + 3) L S (tm_w μ a kI x) nc ns) : tH M d mc ms F pc L ((σ, x) :: (2, a) :: S) μ nc ns := by
  intro p l e R s m args below meth c D A sp ad0 z0 O ad ca H locs ls hg hR hS hL hT hl
  obtain ⟨C, T, N, ref, k, hkI, K, hN, hτ, hgd, h3, hfn, hsm, hlk⟩ := f
  subst hτ; subst hσ; subst hkI
  have ka := tr_r (ts_h (ts_t hT))
  have kx := ts_h hT
  have hv : tr_ok (tm_z μ) (tt_t ci k) x := by
    have h6 := tt_t6 ci k
    have kx2 := kx.2
    generalize tt_t ci k = τ at kx2 h6 h3 hx ⊢
    rcases (show τ = 0 ∨ τ = 1 ∨ τ = 2 ∨ τ = 5 by omega) with rfl | rfl | rfl | rfl
    · exact kx2
    · exact kx2
    · exact kx2
    · exact hx rfl
  have e0 : (te_w ad ca μ)[(a - 1).toNat]? = some (ad a, .inr (ci, (List.range (tt_nf ci)).map fun (j : Nat) => te_v ad (tt_t ci j) (tm_v μ a j))) := by
    rw [te_w_at ad ca μ h1 ka.2, te_eo hk (by have := K.2.2.2.2; omega)]
  have nf := tn_ok (ad := ad) hgd hv
  have e2 : te_v ad (tt_s (tt_t ci k)) x = te_v ad (tt_t ci k) x := te_vs ad _ (tt_t6 _ _)
  have e3 : (te_w ad ca μ).set (a - 1).toNat (ad a, .inr (ci, ((List.range (tt_nf ci)).map fun (j : Nat) => te_v ad (tt_t ci j) (tm_v μ a j)).set k (te_v ad (tt_t ci k) x))) = (te_w ad ca μ).set (a - 1).toNat (ad a, te_e ad ca (tm_w μ a k x) a) := by
    rw [te_oset (by rw [K.nf]; exact hN), te_eo (μ := tm_w μ a k x) hk (by have := K.2.2.2.2; omega)]
  refine W.eq (g2 := F0 m pc ls (te_v ad (tt_t ci k) x :: .ref (ad a) :: S.map fun q => te_v ad q.1 q.2)) (by rw [← va_rfr ad h1, ← e2]; rfl) ?_
  have kk : ∀ (H1 : Heap) (locs1 : List Loc), va_P D tc_cl ((te_w ad ca μ).set (a - 1).toNat (ad a, .inr (ci, ((List.range (tt_nf ci)).map fun (j : Nat) => te_v ad (tt_t ci j) (tm_v μ a j)).set k (te_v ad (tt_t ci k) x)))) H1 → va_D A ((te_w ad ca μ).set (a - 1).toNat (ad a, .inr (ci, ((List.range (tt_nf ci)).map fun (j : Nat) => te_v ad (tt_t ci j) (tm_v μ a j)).set k (te_v ad (tt_t ci k) x)))) → va_S A s.heap H1 locs1 → W p l e R s m args below meth c H1 locs1 nc ns (F below D A sp args s ad0 z0) (F0 m (pc + 3) ls (S.map fun q => te_v ad q.1 q.2)) := by
    intro H1 locs1 hP1 hD1 hS1
    rw [e3] at hP1 hD1
    exact h p l e R s m args below meth c D A sp ad0 z0 O ad ca H1 locs1 ls hg (hR.wr h1 ka.2 (by rw [hk]; exact hv) hP1 hD1) hS1 hL (ts_t (ts_t hT)) hl
  have hln : k < ((List.range (tt_nf ci)).map fun (j : Nat) => te_v ad (tt_t ci j) (tm_v μ a j)).length := by simp [K.nf]; exact hN
  rcases hlk with q | ⟨host, q⟩
  · exact va_put O.x O.b O.ts K.2.1 (tt_ty ci) K.2.2.1 K.2.2.2.1 O.own O.K hR.2.1 hR.2.2.1 hS (a - 1).toNat e0 K.1 k hN (O.ts _ q) (tf_same O.ts hsm) hfn (K.2.2.1 k hN) nf.1 nf.2 hln hd kk
  · exact va_putN O.x O.b O.ts K.2.1 (tt_ty ci) K.2.2.1 K.2.2.2.1 O.own O.K hR.2.1 hR.2.2.1 hS (a - 1).toNat e0 K.1 k hN (O.N q rfl (fun _ _ w z => va_Nw.warmF w z)) (tf_same O.ts hsm) hfn (K.2.2.1 k hN) nf.1 nf.2 hln hd kk
theorem g_putF {idx ci τ : Nat} {a x kI : Int} {σ : Nat} (hd : decode M.2.1 pc = .ok (.putfield idx, 3)) (f : tflF M.1.cls idx ci kI τ) (hσ : tt_s τ = σ) (hini : M.1.name = "<init>") (h1 : 1 ≤ a) (hk : tm_k μ a = ci) (hx : τ = 5 → 0 ≤ x ∧ x ≤ 1) (h : tH M d mc ms F (pc + 3) L S (tm_w μ a kI x) nc ns) : tH M d mc ms F pc L ((σ, x) :: (2, a) :: S) μ nc ns := by
  intro p l e R s m args below meth c D A sp ad0 z0 O ad ca H locs ls hg hR hS hL hT hl
  obtain ⟨C, T, N, k, hkI, K, hN, hτ, hgd, h3, hfn, how, hlk⟩ := f
  subst hτ; subst hσ; subst hkI
  have ka := tr_r (ts_h (ts_t hT))
  have kx := ts_h hT
  have hv : tr_ok (tm_z μ) (tt_t ci k) x := by
    have h6 := tt_t6 ci k
    have kx2 := kx.2
    generalize tt_t ci k = τ at kx2 h6 h3 hx ⊢
    rcases (show τ = 0 ∨ τ = 1 ∨ τ = 2 ∨ τ = 5 by omega) with rfl | rfl | rfl | rfl
    · exact kx2
    · exact kx2
    · exact kx2
    · exact hx rfl
  have e0 : (te_w ad ca μ)[(a - 1).toNat]? = some (ad a, .inr (ci, (List.range (tt_nf ci)).map fun (j : Nat) => te_v ad (tt_t ci j) (tm_v μ a j))) := by
    rw [te_w_at ad ca μ h1 ka.2, te_eo hk (by have := K.2.2.2.2; omega)]
  have nf := tn_ok (ad := ad) hgd hv
  have e2 : te_v ad (tt_s (tt_t ci k)) x = te_v ad (tt_t ci k) x := te_vs ad _ (tt_t6 _ _)
  have e3 : (te_w ad ca μ).set (a - 1).toNat (ad a, .inr (ci, ((List.range (tt_nf ci)).map fun (j : Nat) => te_v ad (tt_t ci j) (tm_v μ a j)).set k (te_v ad (tt_t ci k) x))) = (te_w ad ca μ).set (a - 1).toNat (ad a, te_e ad ca (tm_w μ a k x) a) := by
    rw [te_oset (by rw [K.nf]; exact hN), te_eo (μ := tm_w μ a k x) hk (by have := K.2.2.2.2; omega)]
  refine W.eq (g2 := F0 m pc ls (te_v ad (tt_t ci k) x :: .ref (ad a) :: S.map fun q => te_v ad q.1 q.2)) (by rw [← va_rfr ad h1, ← e2]; rfl) ?_
  have kk : ∀ (H1 : Heap) (locs1 : List Loc), va_P D tc_cl ((te_w ad ca μ).set (a - 1).toNat (ad a, .inr (ci, ((List.range (tt_nf ci)).map fun (j : Nat) => te_v ad (tt_t ci j) (tm_v μ a j)).set k (te_v ad (tt_t ci k) x)))) H1 → va_D A ((te_w ad ca μ).set (a - 1).toNat (ad a, .inr (ci, ((List.range (tt_nf ci)).map fun (j : Nat) => te_v ad (tt_t ci j) (tm_v μ a j)).set k (te_v ad (tt_t ci k) x)))) → va_S A s.heap H1 locs1 → W p l e R s m args below meth c H1 locs1 nc ns (F below D A sp args s ad0 z0) (F0 m (pc + 3) ls (S.map fun q => te_v ad q.1 q.2)) := by
    intro H1 locs1 hP1 hD1 hS1
    rw [e3] at hP1 hD1
    exact h p l e R s m args below meth c D A sp ad0 z0 O ad ca H1 locs1 ls hg (hR.wr h1 ka.2 (by rw [hk]; exact hv) hP1 hD1) hS1 hL (ts_t (ts_t hT)) hl
  have hln : k < ((List.range (tt_nf ci)).map fun (j : Nat) => te_v ad (tt_t ci j) (tm_v μ a j)).length := by simp [K.nf]; exact hN
  exact va_putF O.x O.b O.ts K.2.1 (tt_ty ci) K.2.2.1 K.2.2.2.1 O.own O.K hR.2.1 hR.2.2.1 hS (a - 1).toNat e0 K.1 k hN (ref := M.1.cls) (O.ts _ hlk) (fun x q => by rw [← how]; exact q) hfn (O.nm.trans hini) how (K.2.2.1 k hN) nf.1 nf.2 hln hd kk
theorem tK1 {p : Program} {l : Launch} {e : Env} {R : Room} {s : State} {m : MethodId} {args : Array Value} {meth : Method} {c : Code} {D : va_G} {A : Nat → Prop} {sp : Int → Nat} {M : tM} {d mc ms : Nat} {ad : Int → Nat} {ca : Int → ClassId} {μ : tm_M} {H : Heap} {a : Int} {k : Nat} (O : tO p l e R s m args meth c D A sp M d mc ms) (hR : tR D A s ad ca μ H) (h1 : 1 ≤ a) (h2 : a < tm_z μ) (hk : tm_k μ a = k) (hk2 : 20 ≤ k) : va_K D tc_cl [(ca a, tt_ty k 0)] s := by
  refine ⟨O.K.1, fun i q hq => ?_⟩
  cases i with
  | zero =>
    cases hq
    have := hR.2.2.2 a h1 h2 (by omega)
    rw [hk] at this
    exact this
  | succ i => simp at hq
theorem ti_cl {z j : Int} (hj : tr_s z 0 j) (h0 : 0 ≤ j) : (Int32.ofInt j).toNatClampNeg = j.toNat := by
  show (Int32.ofInt j).toInt.toNat = j.toNat
  rw [tr_it hj]
theorem ti_in {z j n : Int} (hj : tr_s z 0 j) (h0 : 0 ≤ j) (hn : j < n) : vp_in (Int32.ofInt j) n.toNat := by
  rw [vp_in_iff, tr_it hj]
  omega
theorem ti_n {j : Int} (h0 : 0 ≤ j) : ((j.toNat : Nat) : Int) = j := by omega
theorem tt_a {k : Nat} (h : 20 ≤ k) (j : Nat) : tt_ty k j = tt_ty k 0 := by
  unfold tt_ty
  split <;> first | omega | rfl
theorem tt_ta {k : Nat} (h : 20 ≤ k) (j : Nat) : tt_t k j = tt_t k 0 := by
  unfold tt_t
  rw [tt_a h]
theorem g_iaload {a j : Int} (hd : decode M.2.1 pc = .ok (.iaload, 1)) (h1 : 1 ≤ a) (hk : tm_k μ a = 20) (h0 : 0 ≤ j) (hn : j < tm_n μ a) (h : tH M d mc ms F (pc + 1) L ((0, tm_v μ a j) :: S) μ nc ns) : tH M d mc ms F pc L ((0, j) :: (2, a) :: S) μ nc ns := by
  intro p l e R s m args below meth c D A sp ad0 z0 O ad ca H locs ls hg hR hS hL hT hl
  have ka := tr_r (ts_h (ts_t hT))
  have kj := ts_h hT
  have hv : tr_ok (tm_z μ) 0 (tm_v μ a j) := by
    have := (hR.1.2 a h1 ka.2).2 j
    rw [hk, tt_ta (by decide)] at this
    exact this
  have k1 := h p l e R s m args below meth c D A sp ad0 z0 O ad ca H locs ls hg hR hS hL (ts_c (tr_st (τ := 0) (by decide) hv) (ts_t (ts_t hT))) hl
  refine W.eq (g2 := F0 m pc ls (.int (Int32.ofInt j) :: .ref (ad a) :: S.map fun q => te_v ad q.1 q.2)) (by rw [← va_rfr ad h1]; rfl) ?_
  refine va_iald O.x O.b (tK1 O hR h1 ka.2 hk (by decide)) hR.2.1 (a - 1).toNat 0 (by rw [te_w_at ad ca μ h1 ka.2, te_ea hk (by decide)]; rfl) rfl (ti_in kj h0 hn) hd ?_
  rw [ti_cl kj h0, ti_n h0]
  exact k1
theorem g_laload {a j : Int} (hd : decode M.2.1 pc = .ok (.laload, 1)) (h1 : 1 ≤ a) (hk : tm_k μ a = 21) (h0 : 0 ≤ j) (hn : j < tm_n μ a) (h : tH M d mc ms F (pc + 1) L ((1, tm_v μ a j) :: S) μ nc ns) : tH M d mc ms F pc L ((0, j) :: (2, a) :: S) μ nc ns := by
  intro p l e R s m args below meth c D A sp ad0 z0 O ad ca H locs ls hg hR hS hL hT hl
  have ka := tr_r (ts_h (ts_t hT))
  have kj := ts_h hT
  have hv : tr_ok (tm_z μ) 1 (tm_v μ a j) := by
    have := (hR.1.2 a h1 ka.2).2 j
    rw [hk, tt_ta (by decide)] at this
    exact this
  have k1 := h p l e R s m args below meth c D A sp ad0 z0 O ad ca H locs ls hg hR hS hL (ts_c (tr_st (τ := 1) (by decide) hv) (ts_t (ts_t hT))) hl
  refine W.eq (g2 := F0 m pc ls (.int (Int32.ofInt j) :: .ref (ad a) :: S.map fun q => te_v ad q.1 q.2)) (by rw [← va_rfr ad h1]; rfl) ?_
  refine va_lald O.x O.b (tK1 O hR h1 ka.2 hk (by decide)) hR.2.1 (a - 1).toNat 0 (by rw [te_w_at ad ca μ h1 ka.2, te_ea hk (by decide)]; rfl) rfl (ti_in kj h0 hn) hd ?_
  rw [ti_cl kj h0, ti_n h0]
  exact k1
theorem g_baload {a j : Int} (hd : decode M.2.1 pc = .ok (.baload, 1)) (h1 : 1 ≤ a) (hk : tm_k μ a = 22) (h0 : 0 ≤ j) (hn : j < tm_n μ a) (h : tH M d mc ms F (pc + 1) L ((0, tm_v μ a j) :: S) μ nc ns) : tH M d mc ms F pc L ((0, j) :: (2, a) :: S) μ nc ns := by
  intro p l e R s m args below meth c D A sp ad0 z0 O ad ca H locs ls hg hR hS hL hT hl
  have ka := tr_r (ts_h (ts_t hT))
  have kj := ts_h hT
  have hv : tr_ok (tm_z μ) 3 (tm_v μ a j) := by
    have := (hR.1.2 a h1 ka.2).2 j
    rw [hk, tt_ta (by decide)] at this
    exact this
  have k1 := h p l e R s m args below meth c D A sp ad0 z0 O ad ca H locs ls hg hR hS hL (ts_c (tr_st (τ := 3) (by decide) hv) (ts_t (ts_t hT))) hl
  refine W.eq (g2 := F0 m pc ls (.int (Int32.ofInt j) :: .ref (ad a) :: S.map fun q => te_v ad q.1 q.2)) (by rw [← va_rfr ad h1]; rfl) ?_
  refine va_bald O.x O.b (tK1 O hR h1 ka.2 hk (by decide)) hR.2.1 (a - 1).toNat 0 (by rw [te_w_at ad ca μ h1 ka.2, te_ea hk (by decide)]; rfl) rfl (ti_in kj h0 hn) hd ?_
  rw [ti_cl kj h0, ti_n h0]
  exact k1
theorem g_saload {a j : Int} (hd : decode M.2.1 pc = .ok (.saload, 1)) (h1 : 1 ≤ a) (hk : tm_k μ a = 23) (h0 : 0 ≤ j) (hn : j < tm_n μ a) (h : tH M d mc ms F (pc + 1) L ((0, tm_v μ a j) :: S) μ nc ns) : tH M d mc ms F pc L ((0, j) :: (2, a) :: S) μ nc ns := by
  intro p l e R s m args below meth c D A sp ad0 z0 O ad ca H locs ls hg hR hS hL hT hl
  have ka := tr_r (ts_h (ts_t hT))
  have kj := ts_h hT
  have hv : tr_ok (tm_z μ) 4 (tm_v μ a j) := by
    have := (hR.1.2 a h1 ka.2).2 j
    rw [hk, tt_ta (by decide)] at this
    exact this
  have k1 := h p l e R s m args below meth c D A sp ad0 z0 O ad ca H locs ls hg hR hS hL (ts_c (tr_st (τ := 4) (by decide) hv) (ts_t (ts_t hT))) hl
  refine W.eq (g2 := F0 m pc ls (.int (Int32.ofInt j) :: .ref (ad a) :: S.map fun q => te_v ad q.1 q.2)) (by rw [← va_rfr ad h1]; rfl) ?_
  refine va_sald O.x O.b (tK1 O hR h1 ka.2 hk (by decide)) hR.2.1 (a - 1).toNat 0 (by rw [te_w_at ad ca μ h1 ka.2, te_ea hk (by decide)]; rfl) rfl (ti_in kj h0 hn) hd ?_
  rw [ti_cl kj h0, ti_n h0]
  exact k1
theorem g_zaload {a j : Int} (hd : decode M.2.1 pc = .ok (.baload, 1)) (h1 : 1 ≤ a) (hk : tm_k μ a = 24) (h0 : 0 ≤ j) (hn : j < tm_n μ a) (h : tH M d mc ms F (pc + 1) L ((0, tm_v μ a j) :: S) μ nc ns) : tH M d mc ms F pc L ((0, j) :: (2, a) :: S) μ nc ns := by
  intro p l e R s m args below meth c D A sp ad0 z0 O ad ca H locs ls hg hR hS hL hT hl
  have ka := tr_r (ts_h (ts_t hT))
  have kj := ts_h hT
  have hv : tr_ok (tm_z μ) 5 (tm_v μ a j) := by
    have := (hR.1.2 a h1 ka.2).2 j
    rw [hk, tt_ta (by decide)] at this
    exact this
  have k1 := h p l e R s m args below meth c D A sp ad0 z0 O ad ca H locs ls hg hR hS hL (ts_c (tr_st (τ := 5) (by decide) hv) (ts_t (ts_t hT))) hl
  refine W.eq (g2 := F0 m pc ls (.int (Int32.ofInt j) :: .ref (ad a) :: S.map fun q => te_v ad q.1 q.2)) (by rw [← va_rfr ad h1]; rfl) ?_
  refine va_zald O.x O.b (tK1 O hR h1 ka.2 hk (by decide)) hR.2.1 (a - 1).toNat 0 (by rw [te_w_at ad ca μ h1 ka.2, te_ea hk (by decide)]; rfl) rfl (ti_in kj h0 hn) hd ?_
  rw [ti_cl kj h0, ti_n h0]
  exact k1
theorem g_aaload {a j : Int} {k : Nat} (hd : decode M.2.1 pc = .ok (.aaload, 1)) (h1 : 1 ≤ a) (hk : tm_k μ a = k) (hk2 : 25 ≤ k ∧ k < 32) (h0 : 0 ≤ j) (hn : j < tm_n μ a) (h : tH M d mc ms F (pc + 1) L ((2, tm_v μ a j) :: S) μ nc ns) : tH M d mc ms F pc L ((0, j) :: (2, a) :: S) μ nc ns := by
  intro p l e R s m args below meth c D A sp ad0 z0 O ad ca H locs ls hg hR hS hL hT hl
  have ka := tr_r (ts_h (ts_t hT))
  have kj := ts_h hT
  have hs : tt_t k 0 = 2 ∧ (tt_ty k 0).isReference = true := by
    rcases (show k = 25 ∨ k = 26 ∨ k = 27 ∨ k = 28 ∨ k = 29 ∨ k = 30 ∨ k = 31 by omega) with rfl | rfl | rfl | rfl | rfl | rfl | rfl <;> exact ⟨rfl, rfl⟩
  have hv : tr_ok (tm_z μ) 2 (tm_v μ a j) := by
    have := (hR.1.2 a h1 ka.2).2 j
    rw [hk, tt_ta (by omega), hs.1] at this
    exact this
  have k1 := h p l e R s m args below meth c D A sp ad0 z0 O ad ca H locs ls hg hR hS hL (ts_c (tr_k rfl hv) (ts_t (ts_t hT))) hl
  refine W.eq (g2 := F0 m pc ls (.int (Int32.ofInt j) :: .ref (ad a) :: S.map fun q => te_v ad q.1 q.2)) (by rw [← va_rfr ad h1]; rfl) ?_
  have hc := hR.2.1 (a - 1).toNat _ (te_w_at ad ca μ h1 ka.2)
  rw [te_ea hk (by omega), hs.1] at hc
  have hc : H[ad a]? = some (arrV (ca a) (tm_n μ a).toNat (fun (i : Nat) => va_rf (te_r ad (tm_v μ a i)))) := hc
  have hi := ti_in kj h0 hn
  have hlt : j.toNat < (tm_n μ a).toNat := by omega
  refine W.aald (v := va_rf (te_r ad (tm_v μ a j))) (j := Int32.ofInt j) O.x O.b hc ((tK1 O hR h1 ka.2 hk (by omega)).2 0 _ rfl |>.1 _ _) hs.2 (fun q => by cases q) (by rw [arrV_size]; exact hi) ?_ rfl rfl hd k1
  rw [ti_cl kj h0]
  simp only [arrV]
  rw [Array.getElem?_ofFn]
  simp only [hlt, dif_pos]
  rw [ti_n h0]
theorem g_iastore {a j x : Int} (hd : decode M.2.1 pc = .ok (.iastore, 1)) (h1 : 1 ≤ a) (hk : tm_k μ a = 20) (h0 : 0 ≤ j) (hn : j < tm_n μ a) (h : tH M d mc ms F (pc + 1) L S (tm_w μ a j x) nc ns) : tH M d mc ms F pc L ((0, x) :: (0, j) :: (2, a) :: S) μ nc ns := by
  intro p l e R s m args below meth c D A sp ad0 z0 O ad ca H locs ls hg hR hS hL hT hl
  have ka := tr_r (ts_h (ts_t (ts_t hT)))
  have kj := ts_h (ts_t hT)
  have kx := ts_h hT
  have hv : tr_ok (tm_z μ) (tt_t (tm_k μ a) j.toNat) x := by
    rw [hk, tt_ta (by decide)]
    exact kx.2
  have e3 : upd (fun (i : Nat) => Int32.ofInt (tm_v μ a i)) (Int32.ofInt j).toNatClampNeg (Int32.ofInt x) = fun (i : Nat) => Int32.ofInt (tm_v (tm_w μ a j x) a i) := by
    funext i
    rw [ti_cl kj h0]
    simp only [upd, tm_vw, true_and]
    by_cases q : i = j.toNat
    · rw [if_pos q, if_pos (by omega)]
    · rw [if_neg q, if_neg (by omega)]
  refine W.eq (g2 := F0 m pc ls (.int (Int32.ofInt x) :: .int (Int32.ofInt j) :: .ref (ad a) :: S.map fun q => te_v ad q.1 q.2)) (by rw [← va_rfr ad h1]; rfl) ?_
  refine va_iast O.x O.b (tK1 O hR h1 ka.2 hk (by decide)) hR.2.1 hR.2.2.1 hS (a - 1).toNat 0 (by rw [te_w_at ad ca μ h1 ka.2, te_ea hk (by decide)]; rfl) rfl (ti_in kj h0 hn) hd (fun H1 locs1 hP1 hD1 hS1 => ?_)
  rw [e3] at hP1 hD1
  have e4 : te_e ad ca (tm_w μ a j x) a = .inl (ca a, (tm_n μ a).toNat, .inl fun (i : Nat) => Int32.ofInt (tm_v (tm_w μ a j x) a i)) := te_ea (μ := tm_w μ a j x) hk (by decide)
  rw [← e4] at hP1 hD1
  exact h p l e R s m args below meth c D A sp ad0 z0 O ad ca H1 locs1 ls hg (hR.wr h1 ka.2 hv hP1 hD1) hS1 hL (ts_t (ts_t (ts_t hT))) hl
theorem g_lastore {a j x : Int} (hd : decode M.2.1 pc = .ok (.lastore, 1)) (h1 : 1 ≤ a) (hk : tm_k μ a = 21) (h0 : 0 ≤ j) (hn : j < tm_n μ a) (h : tH M d mc ms F (pc + 1) L S (tm_w μ a j x) nc ns) : tH M d mc ms F pc L ((1, x) :: (0, j) :: (2, a) :: S) μ nc ns := by
  intro p l e R s m args below meth c D A sp ad0 z0 O ad ca H locs ls hg hR hS hL hT hl
  have ka := tr_r (ts_h (ts_t (ts_t hT)))
  have kj := ts_h (ts_t hT)
  have kx := ts_h hT
  have hv : tr_ok (tm_z μ) (tt_t (tm_k μ a) j.toNat) x := by
    rw [hk, tt_ta (by decide)]
    exact kx.2
  have e3 : vp_updL (fun (i : Nat) => Int64.ofInt (tm_v μ a i)) (Int32.ofInt j).toNatClampNeg (Int64.ofInt x) = fun (i : Nat) => Int64.ofInt (tm_v (tm_w μ a j x) a i) := by
    funext i
    rw [ti_cl kj h0]
    simp only [vp_updL, tm_vw, true_and]
    by_cases q : i = j.toNat
    · rw [if_pos q, if_pos (by omega)]
    · rw [if_neg q, if_neg (by omega)]
  refine W.eq (g2 := F0 m pc ls (.long (Int64.ofInt x) :: .int (Int32.ofInt j) :: .ref (ad a) :: S.map fun q => te_v ad q.1 q.2)) (by rw [← va_rfr ad h1]; rfl) ?_
  refine va_last O.x O.b (tK1 O hR h1 ka.2 hk (by decide)) hR.2.1 hR.2.2.1 hS (a - 1).toNat 0 (by rw [te_w_at ad ca μ h1 ka.2, te_ea hk (by decide)]; rfl) rfl (ti_in kj h0 hn) hd (fun H1 locs1 hP1 hD1 hS1 => ?_)
  rw [e3] at hP1 hD1
  have e4 : te_e ad ca (tm_w μ a j x) a = .inl (ca a, (tm_n μ a).toNat, .inr (.inl fun (i : Nat) => Int64.ofInt (tm_v (tm_w μ a j x) a i))) := te_ea (μ := tm_w μ a j x) hk (by decide)
  rw [← e4] at hP1 hD1
  exact h p l e R s m args below meth c D A sp ad0 z0 O ad ca H1 locs1 ls hg (hR.wr h1 ka.2 hv hP1 hD1) hS1 hL (ts_t (ts_t (ts_t hT))) hl
theorem g_bastore {a j x : Int} (hd : decode M.2.1 pc = .ok (.bastore, 1)) (h1 : 1 ≤ a) (hk : tm_k μ a = 22) (h0 : 0 ≤ j) (hn : j < tm_n μ a) (hx : -128 ≤ x ∧ x ≤ 127) (h : tH M d mc ms F (pc + 1) L S (tm_w μ a j x) nc ns) : tH M d mc ms F pc L ((0, x) :: (0, j) :: (2, a) :: S) μ nc ns := by
  intro p l e R s m args below meth c D A sp ad0 z0 O ad ca H locs ls hg hR hS hL hT hl
  have ka := tr_r (ts_h (ts_t (ts_t hT)))
  have kj := ts_h (ts_t hT)
  have kx := ts_h hT
  have hv : tr_ok (tm_z μ) (tt_t (tm_k μ a) j.toNat) x := by
    rw [hk, tt_ta (by decide)]
    exact hx
  have e3 : upd (fun (i : Nat) => Int32.ofInt (tm_v μ a i)) (Int32.ofInt j).toNatClampNeg (vp_nar .byte (Int32.ofInt x)) = fun (i : Nat) => Int32.ofInt (tm_v (tm_w μ a j x) a i) := by
    funext i
    rw [ti_cl kj h0]
    simp only [upd, tm_vw, true_and]
    rw [vp_nar_byte, tn_8 hx]
    by_cases q : i = j.toNat
    · rw [if_pos q, if_pos (by omega)]
    · rw [if_neg q, if_neg (by omega)]
  refine W.eq (g2 := F0 m pc ls (.int (Int32.ofInt x) :: .int (Int32.ofInt j) :: .ref (ad a) :: S.map fun q => te_v ad q.1 q.2)) (by rw [← va_rfr ad h1]; rfl) ?_
  refine va_bast O.x O.b (tK1 O hR h1 ka.2 hk (by decide)) hR.2.1 hR.2.2.1 hS (a - 1).toNat 0 (by rw [te_w_at ad ca μ h1 ka.2, te_ea hk (by decide)]; rfl) rfl (ti_in kj h0 hn) hd (fun H1 locs1 hP1 hD1 hS1 => ?_)
  rw [e3] at hP1 hD1
  have e4 : te_e ad ca (tm_w μ a j x) a = .inl (ca a, (tm_n μ a).toNat, .inl fun (i : Nat) => Int32.ofInt (tm_v (tm_w μ a j x) a i)) := te_ea (μ := tm_w μ a j x) hk (by decide)
  rw [← e4] at hP1 hD1
  exact h p l e R s m args below meth c D A sp ad0 z0 O ad ca H1 locs1 ls hg (hR.wr h1 ka.2 hv hP1 hD1) hS1 hL (ts_t (ts_t (ts_t hT))) hl
theorem g_sastore {a j x : Int} (hd : decode M.2.1 pc = .ok (.sastore, 1)) (h1 : 1 ≤ a) (hk : tm_k μ a = 23) (h0 : 0 ≤ j) (hn : j < tm_n μ a) (hx : -32768 ≤ x ∧ x ≤ 32767) (h : tH M d mc ms F (pc + 1) L S (tm_w μ a j x) nc ns) : tH M d mc ms F pc L ((0, x) :: (0, j) :: (2, a) :: S) μ nc ns := by
  intro p l e R s m args below meth c D A sp ad0 z0 O ad ca H locs ls hg hR hS hL hT hl
  have ka := tr_r (ts_h (ts_t (ts_t hT)))
  have kj := ts_h (ts_t hT)
  have kx := ts_h hT
  have hv : tr_ok (tm_z μ) (tt_t (tm_k μ a) j.toNat) x := by
    rw [hk, tt_ta (by decide)]
    exact hx
  have e3 : upd (fun (i : Nat) => Int32.ofInt (tm_v μ a i)) (Int32.ofInt j).toNatClampNeg (vp_nar .short (Int32.ofInt x)) = fun (i : Nat) => Int32.ofInt (tm_v (tm_w μ a j x) a i) := by
    funext i
    rw [ti_cl kj h0]
    simp only [upd, tm_vw, true_and]
    rw [vp_nar_short, tn_16 hx]
    by_cases q : i = j.toNat
    · rw [if_pos q, if_pos (by omega)]
    · rw [if_neg q, if_neg (by omega)]
  refine W.eq (g2 := F0 m pc ls (.int (Int32.ofInt x) :: .int (Int32.ofInt j) :: .ref (ad a) :: S.map fun q => te_v ad q.1 q.2)) (by rw [← va_rfr ad h1]; rfl) ?_
  refine va_sast O.x O.b (tK1 O hR h1 ka.2 hk (by decide)) hR.2.1 hR.2.2.1 hS (a - 1).toNat 0 (by rw [te_w_at ad ca μ h1 ka.2, te_ea hk (by decide)]; rfl) rfl (ti_in kj h0 hn) hd (fun H1 locs1 hP1 hD1 hS1 => ?_)
  rw [e3] at hP1 hD1
  have e4 : te_e ad ca (tm_w μ a j x) a = .inl (ca a, (tm_n μ a).toNat, .inl fun (i : Nat) => Int32.ofInt (tm_v (tm_w μ a j x) a i)) := te_ea (μ := tm_w μ a j x) hk (by decide)
  rw [← e4] at hP1 hD1
  exact h p l e R s m args below meth c D A sp ad0 z0 O ad ca H1 locs1 ls hg (hR.wr h1 ka.2 hv hP1 hD1) hS1 hL (ts_t (ts_t (ts_t hT))) hl
theorem g_zastore {a j x : Int} (hd : decode M.2.1 pc = .ok (.bastore, 1)) (h1 : 1 ≤ a) (hk : tm_k μ a = 24) (h0 : 0 ≤ j) (hn : j < tm_n μ a) (hx : 0 ≤ x ∧ x ≤ 1) (h : tH M d mc ms F (pc + 1) L S (tm_w μ a j x) nc ns) : tH M d mc ms F pc L ((0, x) :: (0, j) :: (2, a) :: S) μ nc ns := by
  intro p l e R s m args below meth c D A sp ad0 z0 O ad ca H locs ls hg hR hS hL hT hl
  have ka := tr_r (ts_h (ts_t (ts_t hT)))
  have kj := ts_h (ts_t hT)
  have kx := ts_h hT
  have hv : tr_ok (tm_z μ) (tt_t (tm_k μ a) j.toNat) x := by
    rw [hk, tt_ta (by decide)]
    exact hx
  have e3 : upd (fun (i : Nat) => Int32.ofInt (tm_v μ a i)) (Int32.ofInt j).toNatClampNeg (vp_nar .boolean (Int32.ofInt x)) = fun (i : Nat) => Int32.ofInt (tm_v (tm_w μ a j x) a i) := by
    funext i
    rw [ti_cl kj h0]
    simp only [upd, tm_vw, true_and]
    rw [show vp_nar .boolean (Int32.ofInt x) = Int32.ofInt x from by unfold vp_nar; rw [(tn_b hx).1]]
    by_cases q : i = j.toNat
    · rw [if_pos q, if_pos (by omega)]
    · rw [if_neg q, if_neg (by omega)]
  refine W.eq (g2 := F0 m pc ls (.int (Int32.ofInt x) :: .int (Int32.ofInt j) :: .ref (ad a) :: S.map fun q => te_v ad q.1 q.2)) (by rw [← va_rfr ad h1]; rfl) ?_
  refine va_zast O.x O.b (tK1 O hR h1 ka.2 hk (by decide)) hR.2.1 hR.2.2.1 hS (a - 1).toNat 0 (by rw [te_w_at ad ca μ h1 ka.2, te_ea hk (by decide)]; rfl) rfl (ti_in kj h0 hn) hd (fun H1 locs1 hP1 hD1 hS1 => ?_)
  rw [e3] at hP1 hD1
  have e4 : te_e ad ca (tm_w μ a j x) a = .inl (ca a, (tm_n μ a).toNat, .inl fun (i : Nat) => Int32.ofInt (tm_v (tm_w μ a j x) a i)) := te_ea (μ := tm_w μ a j x) hk (by decide)
  rw [← e4] at hP1 hD1
  exact h p l e R s m args below meth c D A sp ad0 z0 O ad ca H1 locs1 ls hg (hR.wr h1 ka.2 hv hP1 hD1) hS1 hL (ts_t (ts_t (ts_t hT))) hl
/-- a reference stored: of the array's own class, or of one that can be cast to it -/
def tas (k ci : Nat) : Prop := ∃ (E : String) (r : vw_C), tt_ty k 0 = .object E ∧ tc_cl[ci]? = some r ∧ ci < 15 ∧ 25 ≤ k ∧ (r.1 = E ∨ Cond.castable r.1 E ∈ lw_tbl)
theorem g_aastore {a j x : Int} {k ci : Nat} (hd : decode M.2.1 pc = .ok (.aastore, 1)) (ht : tas k ci) (h1 : 1 ≤ a) (hk : tm_k μ a = k) (h0 : 0 ≤ j) (hn : j < tm_n μ a) (hx : 1 ≤ x) (hkx : tm_k μ x = ci) (h : tH M d mc ms F (pc + 1) L S (tm_w μ a j x) nc ns) : tH M d mc ms F pc L ((2, x) :: (0, j) :: (2, a) :: S) μ nc ns := by
  intro p l e R s m args below meth c D A sp ad0 z0 O ad ca H locs ls hg hR hS hL hT hl
  have ka := tr_r (ts_h (ts_t (ts_t hT)))
  have kj := ts_h (ts_t hT)
  have kx := ts_h hT
  obtain ⟨E, r, tE, tr1, t15, t25, tca⟩ := ht
  have hs : tt_t k 0 = 2 := by unfold tt_t; rw [tE]; rfl
  have hv : tr_ok (tm_z μ) (tt_t (tm_k μ a) j.toNat) x := by
    rw [hk, tt_ta (by omega), hs]
    exact kx.2
  have e3 : va_up (fun (i : Nat) => te_r ad (tm_v μ a i)) (Int32.ofInt j).toNatClampNeg (some (ad x)) = fun (i : Nat) => te_r ad (tm_v (tm_w μ a j x) a i) := by
    funext i
    rw [ti_cl kj h0]
    simp only [va_up, tm_vw, true_and]
    by_cases q : i = j.toNat
    · rw [if_pos q, if_pos (by omega)]
      unfold te_r
      rw [if_neg (by omega)]
    · rw [if_neg q, if_neg (by omega)]
  refine W.eq (g2 := F0 m pc ls (.ref (ad x) :: .int (Int32.ofInt j) :: .ref (ad a) :: S.map fun q => te_v ad q.1 q.2)) (by rw [← va_rfr ad h1, ← va_rfr ad hx]; rfl) ?_
  have hK1 := tK1 O hR h1 ka.2 hk (by omega)
  rw [tE] at hK1
  have e5 : (te_w ad ca μ)[(a - 1).toNat]? = some (ad a, .inl (ca a, (tm_n μ a).toNat, .inr (.inr (.inr (.inr fun (i : Nat) => te_r ad (tm_v μ a i)))))) := by
    rw [te_w_at ad ca μ h1 ka.2, te_ea hk (by omega), hs]
    rfl
  have e6 : (te_w ad ca μ)[(x - 1).toNat]? = some (ad x, .inr (ci, (List.range (tt_nf ci)).map fun (j : Nat) => te_v ad (tt_t ci j) (tm_v μ x j))) := by
    rw [te_w_at ad ca μ hx (tr_r kx).2, te_eo hkx (by omega)]
  have e4 : te_e ad ca (tm_w μ a j x) a = .inl (ca a, (tm_n μ a).toNat, .inr (.inr (.inr (.inr fun (i : Nat) => te_r ad (tm_v (tm_w μ a j x) a i))))) := by
    rw [te_ea (μ := tm_w μ a j x) hk (by omega), hs]
    rfl
  have kk : ∀ (H1 : Heap) (locs1 : List Loc), va_P D tc_cl ((te_w ad ca μ).set (a - 1).toNat (ad a, .inl (ca a, (tm_n μ a).toNat, .inr (.inr (.inr (.inr (va_up (fun (i : Nat) => te_r ad (tm_v μ a i)) (Int32.ofInt j).toNatClampNeg (some (ad x))))))))) H1 → va_D A ((te_w ad ca μ).set (a - 1).toNat (ad a, .inl (ca a, (tm_n μ a).toNat, .inr (.inr (.inr (.inr (va_up (fun (i : Nat) => te_r ad (tm_v μ a i)) (Int32.ofInt j).toNatClampNeg (some (ad x))))))))) → va_S A s.heap H1 locs1 → W p l e R s m args below meth c H1 locs1 nc ns (F below D A sp args s ad0 z0) (F0 m (pc + 1) ls (S.map fun q => te_v ad q.1 q.2)) := by
    intro H1 locs1 hP1 hD1 hS1
    rw [e3, ← e4] at hP1 hD1
    exact h p l e R s m args below meth c D A sp ad0 z0 O ad ca H1 locs1 ls hg (hR.wr h1 ka.2 hv hP1 hD1) hS1 hL (ts_t (ts_t (ts_t hT))) hl
  rcases tca with q | q
  · subst q
    exact va_astq O.x O.b hK1 hR.2.1 hR.2.2.1 hS (a - 1).toNat 0 (x - 1).toNat ci e5 rfl e6 tr1 (ti_in kj h0 hn) hd kk
  · exact va_astqO O.x O.b hK1 hR.2.1 hR.2.2.1 hS (a - 1).toNat 0 (x - 1).toNat ci e5 rfl (va_Nw.of (A := args) rfl (O.N q rfl (fun _ _ w z => va_Nw.warmC w z))) e6 tr1 (ti_in kj h0 hn) hd kk
theorem g_alen {a : Int} {k : Nat} (hd : decode M.2.1 pc = .ok (.arraylength, 1)) (h1 : 1 ≤ a) (hk : tm_k μ a = k) (hk2 : 20 ≤ k) (h : tH M d mc ms F (pc + 1) L ((0, tm_n μ a) :: S) μ nc ns) : tH M d mc ms F pc L ((2, a) :: S) μ nc ns := by
  intro p l e R s m args below meth c D A sp ad0 z0 O ad ca H locs ls hg hR hS hL hT hl
  have ka := tr_r (ts_h hT)
  have hn : 0 ≤ tm_n μ a ∧ tm_n μ a ≤ 1000 := by
    rcases (hR.1.2 a h1 ka.2).1 with q | q <;> omega
  refine W.eq (g2 := F0 m pc ls (.ref (ad a) :: S.map fun q => te_v ad q.1 q.2)) (by rw [← va_rfr ad h1]; rfl) ?_
  refine va_alen (v := Int32.ofInt (tm_n μ a)) O.x O.b (tK1 O hR h1 ka.2 hk hk2) hR.2.1 (a - 1).toNat 0 (by rw [te_w_at ad ca μ h1 ka.2, te_ea hk hk2]) rfl ?_ hd (h p l e R s m args below meth c D A sp ad0 z0 O ad ca H locs ls hg hR hS hL (ts_c (tr_k rfl (by show -2147483648 ≤ tm_n μ a ∧ tm_n μ a ≤ 2147483647; omega)) (ts_t hT)) hl)
  show Int32.ofNat (tm_n μ a).toNat = _
  rw [← Int32.ofInt_eq_ofNat, ti_n hn.1]
theorem g_ifnull {a off : Int} {tgt : Nat} (hd : decode M.2.1 pc = .ok (.ifnull off, 3)) (ht : (pc : Int) + off = (tgt : Int)) (h1 : a = 0 → tH M d mc ms F tgt L S μ nc ns) (h2 : 1 ≤ a → tH M d mc ms F (pc + 3) L S μ nc ns) : tH M d mc ms F pc L ((2, a) :: S) μ nc ns := by
  intro p l e R s m args below meth c D A sp ad0 z0 O ad ca H locs ls hg hR hS hL hT hl
  have ka := tr_r (ts_h hT)
  by_cases q : a = 0
  · have k1 := h1 q p l e R s m args below meth c D A sp ad0 z0 O ad ca H locs ls hg hR hS hL (ts_t hT) hl
    subst q
    exact lv_ifnullN O.x O.b hd ht k1
  · refine W.eq (g2 := F0 m pc ls (.ref (ad a) :: S.map fun q => te_v ad q.1 q.2)) (by rw [← va_rfr ad (by omega)]; rfl) ?_
    exact lv_ifnull O.x O.b hd (h2 (by omega) p l e R s m args below meth c D A sp ad0 z0 O ad ca H locs ls hg hR hS hL (ts_t hT) hl)
theorem g_ifnonnull {a off : Int} {tgt : Nat} (hd : decode M.2.1 pc = .ok (.ifnonnull off, 3)) (ht : (pc : Int) + off = (tgt : Int)) (h1 : 1 ≤ a → tH M d mc ms F tgt L S μ nc ns) (h2 : a = 0 → tH M d mc ms F (pc + 3) L S μ nc ns) : tH M d mc ms F pc L ((2, a) :: S) μ nc ns := by
  intro p l e R s m args below meth c D A sp ad0 z0 O ad ca H locs ls hg hR hS hL hT hl
  have ka := tr_r (ts_h hT)
  by_cases q : a = 0
  · have k1 := h2 q p l e R s m args below meth c D A sp ad0 z0 O ad ca H locs ls hg hR hS hL (ts_t hT) hl
    subst q
    exact lv_ifnonnullN O.x O.b hd k1
  · refine W.eq (g2 := F0 m pc ls (.ref (ad a) :: S.map fun q => te_v ad q.1 q.2)) (by rw [← va_rfr ad (by omega)]; rfl) ?_
    exact lv_ifnonnull O.x O.b hd ht (h1 (by omega) p l e R s m args below meth c D A sp ad0 z0 O ad ca H locs ls hg hR hS hL (ts_t hT) hl)
theorem te_inj {D : va_G} {A : Nat → Prop} {s : State} {ad : Int → Nat} {ca : Int → ClassId} {μ : tm_M} {H : Heap} (hR : tR D A s ad ca μ H) {a b : Int} (ha : 0 ≤ a ∧ a < tm_z μ) (hb : 0 ≤ b ∧ b < tm_z μ) : te_r ad a = te_r ad b ↔ a = b := by
  constructor
  · intro q
    unfold te_r at q
    split at q
    · split at q
      · omega
      · cases q
    · split at q
      · cases q
      · have := hR.2.2.1.1 _ _ _ _ (te_w_at ad ca μ (a := a) (by omega) ha.2) (te_w_at ad ca μ (a := b) (by omega) hb.2) (Option.some.inj q)
        omega
  · intro q; rw [q]
theorem g_acmp_eq {a b off : Int} {tgt : Nat} (hd : decode M.2.1 pc = .ok (.if_acmp .eq off, 3)) (ht : (pc : Int) + off = (tgt : Int)) (h1 : a = b → tH M d mc ms F tgt L S μ nc ns) (h2 : a ≠ b → tH M d mc ms F (pc + 3) L S μ nc ns) : tH M d mc ms F pc L ((2, b) :: (2, a) :: S) μ nc ns := by
  intro p l e R s m args below meth c D A sp ad0 z0 O ad ca H locs ls hg hR hS hL hT hl
  have kb := tr_r (ts_h hT)
  have ka := tr_r (ts_h (ts_t hT))
  exact lv_acmp_eq (rx := te_r ad a) (ry := te_r ad b) O.x O.b hd ht (fun q => h1 ((te_inj hR ka kb).mp q) p l e R s m args below meth c D A sp ad0 z0 O ad ca H locs ls hg hR hS hL (ts_t (ts_t hT)) hl) (fun q => h2 (fun r => q ((te_inj hR ka kb).mpr r)) p l e R s m args below meth c D A sp ad0 z0 O ad ca H locs ls hg hR hS hL (ts_t (ts_t hT)) hl)
theorem g_acmp_ne {a b off : Int} {tgt : Nat} (hd : decode M.2.1 pc = .ok (.if_acmp .ne off, 3)) (ht : (pc : Int) + off = (tgt : Int)) (h1 : a ≠ b → tH M d mc ms F tgt L S μ nc ns) (h2 : a = b → tH M d mc ms F (pc + 3) L S μ nc ns) : tH M d mc ms F pc L ((2, b) :: (2, a) :: S) μ nc ns := by
  intro p l e R s m args below meth c D A sp ad0 z0 O ad ca H locs ls hg hR hS hL hT hl
  have kb := tr_r (ts_h hT)
  have ka := tr_r (ts_h (ts_t hT))
  exact lv_acmp_ne (rx := te_r ad a) (ry := te_r ad b) O.x O.b hd ht (fun q => h1 (fun r => q ((te_inj hR ka kb).mpr r)) p l e R s m args below meth c D A sp ad0 z0 O ad ca H locs ls hg hR hS hL (ts_t (ts_t hT)) hl) (fun q => h2 ((te_inj hR ka kb).mp q) p l e R s m args below meth c D A sp ad0 z0 O ad ca H locs ls hg hR hS hL (ts_t (ts_t hT)) hl)
theorem g_castN {idx : Nat} (hd : decode M.2.1 pc = .ok (.checkcast idx, 3)) (h : tH M d mc ms F (pc + 3) L ((2, 0) :: S) μ nc ns) : tH M d mc ms F pc L ((2, 0) :: S) μ nc ns := by
  intro p l e R s m args below meth c D A sp ad0 z0 O ad ca H locs ls hg hR hS hL hT hl
  exact lv_castN O.x O.b hd (h p l e R s m args below meth c D A sp ad0 z0 O ad ca H locs ls hg hR hS hL (hT) hl)
/-- a cast to an array's own class -/
theorem g_castA {idx k : Nat} {a : Int} {nm : String} (hd : decode M.2.1 pc = .ok (.checkcast idx, 3)) (hq : Cond.classLink M.1.cls idx nm ∈ lw_all) (hk2 : 20 ≤ k ∧ k < 25) (hnm : "[" ++ (tt_ty k 0).toString = nm) (h1 : 1 ≤ a) (hk : tm_k μ a = k) (h : tH M d mc ms F (pc + 3) L ((2, a) :: S) μ nc ns) : tH M d mc ms F pc L ((2, a) :: S) μ nc ns := by
  intro p l e R s m args below meth c D A sp ad0 z0 O ad ca H locs ls hg hR hS hL hT hl
  have ka := tr_r (ts_h hT)
  have k1 := h p l e R s m args below meth c D A sp ad0 z0 O ad ca H locs ls hg hR hS hL (hT) hl
  have e1 : (te_v ad 2 a) = .ref (ad a) := va_rfr ad h1
  have hra := (hR.2.2.2 a h1 ka.2 (by omega)).2
  rw [hk] at hra
  refine W.eq (g2 := F0 m pc ls (.ref (ad a) :: S.map fun q => te_v ad q.1 q.2)) (by rw [← va_rfr ad h1]; rfl) ?_
  refine va_castA O.x O.b O.own (O.ts _ hq) hR.2.1 (a - 1).toNat (by rw [te_w_at ad ca μ h1 ka.2, te_ea hk (by omega)]) ?_ hd (W.eq (by rw [← e1]; rfl) k1)
  rw [← hnm]
  rcases (show k = 20 ∨ k = 21 ∨ k = 22 ∨ k = 23 ∨ k = 24 by omega) with rfl | rfl | rfl | rfl | rfl <;> exact hra
theorem g_iret {Q : tQ} {x : Int} (hd : decode M.2.1 pc = .ok (.ireturn, 1)) (hr : M.2.2.2.1 = some .int) (h1 : nc ≤ mc) (h2 : ns ≤ ms) (h : Q (.inl (some (0, x))) μ) : tH M d mc ms (tq Q mc ms) pc L [(0, x)] μ nc ns := by
  intro p l e R s m args below meth c D A sp ad0 z0 O ad ca H locs ls hg hR hS hL hT hl
  have hlk := O.lk
  refine W.mono tq_of (W.widen h1 h2 ?_)
  exact W.iret O.x O.b (O.r.trans hr) (fun t ht hW => ⟨⟨.inl (some (0, x)), μ, ad, ca, hg, rfl, ts_h hT, by rw [ht]; exact hR.moved hW.alike, h⟩, hS.F ht⟩) hS.2.2 hd
theorem g_zret {Q : tQ} {x : Int} (hd : decode M.2.1 pc = .ok (.ireturn, 1)) (hr : M.2.2.2.1 = some .boolean) (hx : 0 ≤ x ∧ x ≤ 1) (h1 : nc ≤ mc) (h2 : ns ≤ ms) (h : Q (.inl (some (0, x))) μ) : tH M d mc ms (tq Q mc ms) pc L [(0, x)] μ nc ns := by
  intro p l e R s m args below meth c D A sp ad0 z0 O ad ca H locs ls hg hR hS hL hT hl
  have hlk := O.lk
  refine W.mono tq_of (W.widen h1 h2 ?_)
  exact W.zret O.x O.b (O.r.trans hr) (tn_b hx).1 (fun t ht hW => ⟨⟨.inl (some (0, x)), μ, ad, ca, hg, rfl, ts_h hT, by rw [ht]; exact hR.moved hW.alike, h⟩, hS.F ht⟩) hS.2.2 hd
theorem g_lret {Q : tQ} {x : Int} (hd : decode M.2.1 pc = .ok (.lreturn, 1)) (hr : M.2.2.2.1 = some .long) (h1 : nc ≤ mc) (h2 : ns ≤ ms) (h : Q (.inl (some (1, x))) μ) : tH M d mc ms (tq Q mc ms) pc L [(1, x)] μ nc ns := by
  intro p l e R s m args below meth c D A sp ad0 z0 O ad ca H locs ls hg hR hS hL hT hl
  have hlk := O.lk
  refine W.mono tq_of (W.widen h1 h2 ?_)
  exact W.lret O.x O.b (O.r.trans hr) (fun t ht hW => ⟨⟨.inl (some (1, x)), μ, ad, ca, hg, rfl, ts_h hT, by rw [ht]; exact hR.moved hW.alike, h⟩, hS.F ht⟩) hS.2.2 hd
theorem g_aret {Q : tQ} {x : Int} {rt : FieldType} (hd : decode M.2.1 pc = .ok (.areturn, 1)) (hr : M.2.2.2.1 = some rt) (hrt : rt.isReference = true) (h1 : nc ≤ mc) (h2 : ns ≤ ms) (h : Q (.inl (some (2, x))) μ) : tH M d mc ms (tq Q mc ms) pc L [(2, x)] μ nc ns := by
  intro p l e R s m args below meth c D A sp ad0 z0 O ad ca H locs ls hg hR hS hL hT hl
  have hlk := O.lk
  refine W.mono tq_of (W.widen h1 h2 ?_)
  refine W.aret (v := te_v ad 2 x) (rt := rt) O.x O.b (O.r.trans hr) ?_ ?_ (fun t ht hW => ⟨⟨.inl (some (2, x)), μ, ad, ca, hg, rfl, ts_h hT, by rw [ht]; exact hR.moved hW.alike, h⟩, hS.F ht⟩) hS.2.2 hd
  · cases rt with
    | object n => exact Or.inl ⟨n, rfl⟩
    | array t => exact Or.inr ⟨t, rfl⟩
    | _ => cases hrt
  · show va_rf (te_r ad x) = .null ∨ ∃ a, va_rf (te_r ad x) = .ref a
    cases te_r ad x with
    | none => exact Or.inl rfl
    | some q => exact Or.inr ⟨q, rfl⟩
theorem g_vret {Q : tQ} (hd : decode M.2.1 pc = .ok (.return_, 1)) (hr : M.2.2.2.1 = none) (h1 : nc ≤ mc) (h2 : ns ≤ ms) (h : Q (.inl none) μ) : tH M d mc ms (tq Q mc ms) pc L [] μ nc ns := by
  intro p l e R s m args below meth c D A sp ad0 z0 O ad ca H locs ls hg hR hS hL hT hl
  have hlk := O.lk
  refine W.mono tq_of (W.widen h1 h2 ?_)
  exact W.vret O.x O.b (O.r.trans hr) (fun t ht hW => ⟨⟨.inl none, μ, ad, ca, hg, rfl, trivial, by rw [ht]; exact hR.moved hW.alike, h⟩, hS.F ht⟩) hS.2.2 hd
theorem g_objInit {idx : Nat} {a : Int} (hd : decode M.2.1 pc = .ok (.invokespecial idx, 3)) (hq : Cond.methodLink M.1.cls idx objectInit ∈ lw_all) (hq1 : Cond.instanceMethod objectInit ∈ lw_all) (hq2 : Cond.code objectInit ⟨#[0xb1]⟩ 1 none ∈ lw_all) (h1 : 1 ≤ a) (hS8 : S.length ≤ 8) (h : tH M d mc ms F (pc + 3) L S μ nc ns) : tH M d mc ms F pc L ((2, a) :: S) μ nc ns := by
  intro p l e R s m args below meth c D A sp ad0 z0 O ad ca H locs ls hg hR hS hL hT hl
  refine W.eq (g2 := F0 m pc ls (.ref (ad a) :: S.map fun q => te_v ad q.1 q.2)) (by rw [← va_rfr ad h1]; rfl) ?_
  refine W.objInit O.x O.b O.own (O.ts _ hq) (O.ts _ hq1) (O.ts _ hq2) rfl (by rw [O.ml]; exact hl.1) rfl hd (by have := O.rm.1; omega) ?_ (h p l e R s m args below meth c D A sp ad0 z0 O ad ca H locs ls hg hR hS hL (ts_t hT) hl)
  have : (((S.map fun q => te_v ad q.1 q.2).map fun v => v.category).sum) ≤ 2 * S.length := by
    clear h hT
    induction S with
    | nil => simp
    | cons q t ih =>
      have := ih (by simp at hS8; omega)
      rcases lv_cat (te_v ad q.1 q.2) with w | w <;> simp only [List.map_cons, List.sum_cons, List.length_cons, w] <;> omega
  have h3 := O.rm.2.1
  show 2 * 0 + _ + 12 ≤ _
  omega
end HRULES
