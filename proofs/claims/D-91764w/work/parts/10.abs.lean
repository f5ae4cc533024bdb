/-! THE ABSTRACT MEMORY: integers alone. tm_z: one more than the last address; tm_k: a cell's kind; tm_n: its length; tm_v: what it holds. An address is 1 or more, 0 is null. -/
abbrev tm_M : Type := Int × (Int → Nat) × (Int → Int) × (Int → Int → Int)
def tm_z (μ : tm_M) : Int := μ.1
def tm_k (μ : tm_M) : Int → Nat := μ.2.1
def tm_n (μ : tm_M) : Int → Int := μ.2.2.1
def tm_v (μ : tm_M) : Int → Int → Int := μ.2.2.2
/-- one place written -/
def tm_w (μ : tm_M) (a j x : Int) : tm_M := (μ.1, μ.2.1, μ.2.2.1, fun b i => if b = a ∧ i = j then x else μ.2.2.2 b i)
/-- a new cell, of zeros -/
def tm_a (μ : tm_M) (k : Nat) (n : Int) : tm_M := (μ.1 + 1, fun b => if b = μ.1 then k else μ.2.1 b, fun b => if b = μ.1 then n else μ.2.2.1 b, fun b i => if b = μ.1 then 0 else μ.2.2.2 b i)
/-- n places copied -/
def tm_c (μ : tm_M) (a i b j n : Int) : tm_M := (μ.1, μ.2.1, μ.2.2.1, fun q x => if q = b ∧ j ≤ x ∧ x < j + n then μ.2.2.2 a (i + (x - j)) else μ.2.2.2 q x)
theorem tm_zw (μ : tm_M) (a j x : Int) : tm_z (tm_w μ a j x) = tm_z μ := rfl
theorem tm_kw (μ : tm_M) (a j x : Int) : tm_k (tm_w μ a j x) = tm_k μ := rfl
theorem tm_nw (μ : tm_M) (a j x : Int) : tm_n (tm_w μ a j x) = tm_n μ := rfl
theorem tm_vw (μ : tm_M) (a j x b i : Int) : tm_v (tm_w μ a j x) b i = if b = a ∧ i = j then x else tm_v μ b i := rfl
theorem tm_zc (μ : tm_M) (a i b j n : Int) : tm_z (tm_c μ a i b j n) = tm_z μ := rfl
theorem tm_kc (μ : tm_M) (a i b j n : Int) : tm_k (tm_c μ a i b j n) = tm_k μ := rfl
theorem tm_nc (μ : tm_M) (a i b j n : Int) : tm_n (tm_c μ a i b j n) = tm_n μ := rfl
theorem tm_vc (μ : tm_M) (a i b j n q x : Int) : tm_v (tm_c μ a i b j n) q x = if q = b ∧ j ≤ x ∧ x < j + n then tm_v μ a (i + (x - j)) else tm_v μ q x := rfl
theorem tm_za (μ : tm_M) (k : Nat) (n : Int) : tm_z (tm_a μ k n) = tm_z μ + 1 := rfl
theorem tm_ka (μ : tm_M) (k : Nat) (n b : Int) : tm_k (tm_a μ k n) b = if b = tm_z μ then k else tm_k μ b := rfl
theorem tm_na (μ : tm_M) (k : Nat) (n b : Int) : tm_n (tm_a μ k n) b = if b = tm_z μ then n else tm_n μ b := rfl
theorem tm_va (μ : tm_M) (k : Nat) (n b i : Int) : tm_v (tm_a μ k n) b i = if b = tm_z μ then 0 else tm_v μ b i := rfl
/-! KINDS: 0 to 14 classes (by their place in tc_cl), 20 to 31 arrays -/
def tt_f : FieldType → Nat
  | .int => 0
  | .long => 1
  | .byte => 3
  | .short => 4
  | .boolean => 5
  | _ => 2
def tt_ty (k : Nat) : Nat → FieldType := match k with
  | 0 => tyX0
  | 1 => tyX1
  | 2 => tyX2
  | 3 => tyX3
  | 4 => tyX4
  | 5 => tyX5
  | 6 => tyX6
  | 7 => tyX7
  | 8 => tyX8
  | 9 => tyX10
  | 10 => tyX11
  | 11 => tyX12
  | 20 => fun _ => .int
  | 21 => fun _ => .long
  | 22 => fun _ => .byte
  | 23 => fun _ => .short
  | 24 => fun _ => .boolean
  | 25 => fun _ => .object "TwoSeek$Tray"
  | 26 => fun _ => .object "TwoSeek$Place"
  | 27 => fun _ => .object "TwoSeek$Lane"
  | 28 => fun _ => .object "TwoSeek$Way"
  | 29 => fun _ => .object "TwoSeek$Walker"
  | 30 => fun _ => .array .int
  | 31 => fun _ => .array .long
  | _ => fun _ => .int
def tt_t (k j : Nat) : Nat := tt_f (tt_ty k j)
/-- the classes whose objects a memory holds -/
abbrev tc_cl : List vw_C := [(RX0, TX0, 48), (RX1, TX1, 8), (RX2, TX2, 10), (RX3, TX3, 4), (RX4, TX4, 8), (RX5, TX5, 2), (RX6, TX6, 79), (RX7, TX7, 7), (RX8, TX8, 3), (RX10, TX10, 1), (RX11, TX11, 1), (RX12, TX12, 1), (RJ3, TJ3, 0), (RJ5, TJ5, 0), (RJ7, TJ7, 0)]
def tt_nf (k : Nat) : Nat := match tc_cl[k]? with
  | some q => q.2.2
  | none => 0
/-- values: by a sort (0 int, 1 long, 2 reference, 6 an old thing; of places also 3 byte, 4 short, 5 boolean) and an integer -/
def te_r (ad : Int → Nat) (x : Int) : Option Nat := if x = 0 then none else some (ad x)
def te_v (ad : Int → Nat) (τ : Nat) (x : Int) : Value := match τ with
  | 1 => .long (Int64.ofInt x)
  | 2 => va_rf (te_r ad x)
  | 6 => .ref (ad (-x))
  | _ => .int (Int32.ofInt x)
def te_c (ad : Int → Nat) (τ : Nat) (f : Int → Int) : (Nat → Int32) ⊕ (Nat → Int64) ⊕ (Nat → UInt32) ⊕ (Nat → UInt64) ⊕ (Nat → Option Nat) := match τ with
  | 1 => .inr (.inl fun j => Int64.ofInt (f j))
  | 2 => .inr (.inr (.inr (.inr fun j => te_r ad (f j))))
  | _ => .inl fun j => Int32.ofInt (f j)
def te_e (ad : Int → Nat) (ca : Int → ClassId) (μ : tm_M) (a : Int) : va_E :=
  if tm_k μ a < 20 then .inr (tm_k μ a, (List.range (tt_nf (tm_k μ a))).map fun j => te_v ad (tt_t (tm_k μ a) j) (tm_v μ a j))
  else .inl (ca a, (tm_n μ a).toNat, te_c ad (tt_t (tm_k μ a) 0) (tm_v μ a))
def te_w (ad : Int → Nat) (ca : Int → ClassId) (μ : tm_M) : va_W := (List.range (tm_z μ - 1).toNat).map fun (i : Nat) => (ad ((i : Int) + 1), te_e ad ca μ ((i : Int) + 1))
/-- what a place of a sort may hold -/
def tr_ok (z : Int) (τ : Nat) (x : Int) : Prop := match τ with
  | 0 => -2147483648 ≤ x ∧ x ≤ 2147483647
  | 1 => -9223372036854775808 ≤ x ∧ x ≤ 9223372036854775807
  | 2 => 0 ≤ x ∧ x < z
  | 3 => -128 ≤ x ∧ x ≤ 127
  | 4 => -32768 ≤ x ∧ x ≤ 32767
  | 5 => 0 ≤ x ∧ x ≤ 1
  | 6 => 1 ≤ x ∧ x ≤ 4
  | _ => False
/-- of the stack and the locals -/
def tr_s (z : Int) (τ : Nat) (x : Int) : Prop := (τ < 3 ∨ τ = 6) ∧ tr_ok z τ x
def tw_f (μ : tm_M) : Prop := 1 ≤ tm_z μ ∧ ∀ a, 1 ≤ a → a < tm_z μ →
  ((tm_k μ a < 15 ∧ tm_n μ a = tt_nf (tm_k μ a)) ∨ (20 ≤ tm_k μ a ∧ tm_k μ a < 32 ∧ 0 ≤ tm_n μ a ∧ tm_n μ a ≤ 1000)) ∧
  ∀ j : Int, tr_ok (tm_z μ) (tt_t (tm_k μ a) j.toNat) (tm_v μ a j)
/-- the heap H of the state s holds the memory μ: ad its addresses, ca its arrays' classes -/
def tR (D : va_G) (A : Nat → Prop) (s : State) (ad : Int → Nat) (ca : Int → ClassId) (μ : tm_M) (H : Heap) : Prop :=
  tw_f μ ∧ va_P D tc_cl (te_w ad ca μ) H ∧ va_D A (te_w ad ca μ) ∧
  ∀ a, 1 ≤ a → a < tm_z μ → 20 ≤ tm_k μ a → ArrOfT s (ca a) (tt_ty (tm_k μ a) 0) ∧ va_RA s (ca a) (tt_ty (tm_k μ a) 0)
theorem te_w_at (ad : Int → Nat) (ca : Int → ClassId) (μ : tm_M) {a : Int} (h1 : 1 ≤ a) (h2 : a < tm_z μ) : (te_w ad ca μ)[(a - 1).toNat]? = some (ad a, te_e ad ca μ a) := by
  unfold te_w
  rw [List.getElem?_map, List.getElem?_range (by omega)]
  have : (((a - 1).toNat : Nat) : Int) + 1 = a := by omega
  simp only [Option.map_some, this]
theorem te_w_len (ad : Int → Nat) (ca : Int → ClassId) (μ : tm_M) : (te_w ad ca μ).length = (tm_z μ - 1).toNat := by simp [te_w]
/-- a cell's contents changed -/
theorem te_w_set {ad : Int → Nat} {ca : Int → ClassId} {μ μ' : tm_M} {a : Int} (h1 : 1 ≤ a) (h2 : a < tm_z μ) (hz : tm_z μ' = tm_z μ) (ho : ∀ b, b ≠ a → te_e ad ca μ' b = te_e ad ca μ b) :
    (te_w ad ca μ).set (a - 1).toNat (ad a, te_e ad ca μ' a) = te_w ad ca μ' := by
  refine List.ext_getElem? fun i => ?_
  by_cases hi : i < (tm_z μ - 1).toNat
  · by_cases e : i = (a - 1).toNat
    · subst e
      rw [List.getElem?_set_self (by rw [te_w_len]; exact hi), te_w_at ad ca μ' h1 (by rw [hz]; exact h2)]
    · rw [List.getElem?_set_ne (fun q => e q.symm)]
      have e1 := te_w_at ad ca μ (a := (i : Int) + 1) (by omega) (by omega)
      have e2 := te_w_at ad ca μ' (a := (i : Int) + 1) (by omega) (by rw [hz]; omega)
      have e3 : ((i : Int) + 1 - 1).toNat = i := by omega
      rw [e3] at e1 e2
      rw [e1, e2, ho _ (by omega)]
  · rw [List.getElem?_eq_none (by rw [List.length_set, te_w_len]; omega), List.getElem?_eq_none (by rw [te_w_len, hz]; omega)]
/-- a cell is new -/
theorem te_w_app {ad ad' : Int → Nat} {ca ca' : Int → ClassId} {μ μ' : tm_M} (h1 : 1 ≤ tm_z μ) (hz : tm_z μ' = tm_z μ + 1) (ho : ∀ b, 1 ≤ b → b < tm_z μ → (ad' b, te_e ad' ca' μ' b) = (ad b, te_e ad ca μ b)) :
    te_w ad ca μ ++ [(ad' (tm_z μ), te_e ad' ca' μ' (tm_z μ))] = te_w ad' ca' μ' := by
  refine List.ext_getElem? fun i => ?_
  by_cases hi : i < (tm_z μ - 1).toNat
  · rw [List.getElem?_append_left (by rw [te_w_len]; exact hi)]
    have e1 := te_w_at ad ca μ (a := (i : Int) + 1) (by omega) (by omega)
    have e2 := te_w_at ad' ca' μ' (a := (i : Int) + 1) (by omega) (by omega)
    have e3 : ((i : Int) + 1 - 1).toNat = i := by omega
    rw [e3] at e1 e2
    rw [e1, e2, ho _ (by omega) (by omega)]
  · rw [List.getElem?_append_right (by rw [te_w_len]; omega), te_w_len]
    by_cases e : i = (tm_z μ - 1).toNat
    · have e2 := te_w_at ad' ca' μ' (a := tm_z μ) h1 (by omega)
      rw [← e] at e2 ⊢
      rw [e2]
      simp
    · rw [List.getElem?_eq_none (by simp; omega), List.getElem?_eq_none (by rw [te_w_len]; omega)]
theorem te_v_moved {ad ad' : Int → Nat} {τ : Nat} {z x : Int} (hz : 0 ≤ z) (h : ∀ a, a < z → ad' a = ad a) (hx : tr_ok z τ x) : te_v ad' τ x = te_v ad τ x := by
  unfold te_v
  split
  · rfl
  · unfold te_r
    have hx' : 0 ≤ x ∧ x < z := hx
    rw [h x hx'.2]
  · have hx' : 1 ≤ x ∧ x ≤ 4 := hx
    rw [h (-x) (by omega)]
  · rfl
theorem tr_up {z z' : Int} (h : z ≤ z') {τ : Nat} {x : Int} (hx : tr_ok z τ x) : tr_ok z' τ x := by
  unfold tr_ok at *
  split <;> simp only at hx <;> first | exact hx | omega
theorem tr_sup {z z' : Int} (h : z ≤ z') {τ : Nat} {x : Int} (hx : tr_s z τ x) : tr_s z' τ x := ⟨hx.1, tr_up h hx.2⟩
