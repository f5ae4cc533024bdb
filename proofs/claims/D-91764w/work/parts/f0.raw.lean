/-! RAW WALKS: memories that grow, calls that throw -/
theorem p_r {M : tM} {d mc ms : Nat} {F : tF} {pc : Nat} {L : tLs} {S : tSt} {x : tm_M} {nc ns : Nat} (h : ∀ m, m = x → tH M d mc ms F pc L S m nc ns) : tH M d mc ms F pc L S x nc ns := h x rfl
/-- a call of M' from a method with d, mc, ms -/
def rcl (M' : tM) (as : tSt) (μ : tm_M) (d mc ms nc ns : Nat) (P : tOc → tm_M → Nat → Nat → Prop) : Prop :=
  ∃ d' mc' ms' : Nat, d' + 1 ≤ d ∧ nc + mc' ≤ mc ∧ ns + ms' ≤ ms ∧ tC M' d' mc' ms' as μ (fun o μ1 => P o μ1 (nc + mc') (ns + ms'))
/-- it comes back with r, or throws -/
def rk (τ : Nat) (o : tOc) (A B : Int → Prop) : Prop := (∃ r, o = .inl (some (τ, r)) ∧ A r) ∨ ∃ a, o = .inr a ∧ B a
def rkV (o : tOc) (A : Prop) (B : Int → Prop) : Prop := (o = .inl none ∧ A) ∨ ∃ a, o = .inr a ∧ B a
section RAW
variable {M : tM} {d mc ms : Nat} {F : tF} {pc : Nat} {L : tLs} {S : tSt} {μ : tm_M} {nc ns : Nat}
theorem rk_go {τ : Nat} {o : tOc} {A B : Int → Prop} (q : rk τ o A B) (h1 : ∀ r, A r → tH M d mc ms F (pc + 3) L ((τ, r) :: S) μ nc ns) (h2 : ∀ a, B a → tT M d mc ms F pc L a μ nc ns) : tk M d mc ms F pc L S nc ns o μ := by
  rcases q with ⟨r, rfl, h⟩ | ⟨a, rfl, h⟩
  · exact h1 r h
  · exact h2 a h
theorem rk_goV {o : tOc} {A : Prop} {B : Int → Prop} (q : rkV o A B) (h1 : A → tH M d mc ms F (pc + 3) L S μ nc ns) (h2 : ∀ a, B a → tT M d mc ms F pc L a μ nc ns) : tk M d mc ms F pc L S nc ns o μ := by
  rcases q with ⟨rfl, h⟩ | ⟨a, rfl, h⟩
  · exact h1 h
  · exact h2 a h
theorem g_castZ {idx k : Nat} {a : Int} {nm : String} (hd : decode M.2.1 pc = .ok (.checkcast idx, 3)) (hq : Cond.classLink M.1.cls idx nm ∈ lw_all) (hk2 : 20 ≤ k ∧ k < 25) (hnm : "[" ++ (tt_ty k 0).toString = nm) (h1 : a = 0 ∨ (1 ≤ a ∧ tm_k μ a = k)) (h : tH M d mc ms F (pc + 3) L ((2, a) :: S) μ nc ns) : tH M d mc ms F pc L ((2, a) :: S) μ nc ns := by
  rcases h1 with rfl | h1
  · exact g_castN hd h
  · exact g_castA hd hq hk2 hnm h1.1 h1.2 h
end RAW
