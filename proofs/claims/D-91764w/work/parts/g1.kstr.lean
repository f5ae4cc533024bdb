/-! CONTRACTS of the key words' methods -/
section KSTR
variable {d mc ms nc ns : Nat} {μ : tm_M} {i n x : Int} {τ : Nat}
def q_is (μ : tm_M) (x : Int) : tQ := fun o μ1 => o = .inl (some (0, x)) ∧ μ1 = μ
theorem pJ4_coder : tC mJ4_coder d 0 0 [(6, 2)] μ (q_is μ 0) := by
  refine tC_of rfl (Nat.le_of_ble_eq_true rfl) ?_
  refine g_gsZ dJ4_coder_0 q705 ?_
  refine g_if_eq (tgt := 13) dJ4_coder_3 (by decide) (fun c => absurd c (by decide)) (fun _ => ?_)
  refine g_aloadO_n (q := 0) dJ4_coder_6 rfl rfl ?_
  refine g_getK dJ4_coder_7 q1873 ?_
  refine g_goto (tgt := 14) dJ4_coder_10 (by decide) ?_
  exact g_nret dJ4_coder_14 rfl rfl (Nat.le_refl _) (Nat.le_refl _) ⟨rfl, rfl⟩
theorem pJ4_isLatin1 : tC mJ4_isLatin1 d 0 0 [(6, 2)] μ (q_is μ 1) := by
  refine tC_of rfl (Nat.le_of_ble_eq_true rfl) ?_
  refine g_gsZ dJ4_isLatin1_0 q705 ?_
  refine g_if_eq (tgt := 17) dJ4_isLatin1_3 (by decide) (fun c => absurd c (by decide)) (fun _ => ?_)
  refine g_aloadO_n (q := 0) dJ4_isLatin1_6 rfl rfl ?_
  refine g_getK dJ4_isLatin1_7 q1873 ?_
  refine g_if_ne (tgt := 17) dJ4_isLatin1_10 (by decide) (fun c => absurd rfl c) (fun _ => ?_)
  refine g_iconst dJ4_isLatin1_13 (by decide) ?_
  refine g_goto (tgt := 18) dJ4_isLatin1_14 (by decide) ?_
  exact g_zret dJ4_isLatin1_18 rfl (by decide) (Nat.le_refl _) (Nat.le_refl _) ⟨rfl, rfl⟩
theorem pJ4_length (hd : 1 ≤ d) : tC mJ4_length d 0 0 [(6, 2)] μ (q_is μ 50) := by
  refine tC_of rfl (Nat.le_of_ble_eq_true rfl) ?_
  refine g_aloadO_n (q := 0) dJ4_length_0 rfl rfl ?_
  refine g_getV dJ4_length_1 q1872 ?_
  refine g_alenK dJ4_length_4 ?_
  refine g_aloadO_n (q := 0) dJ4_length_5 rfl rfl ?_
  refine g_callK (d' := d - 1) (as := []) (S := [(0, 50)]) dJ4_length_6 kJ4_coder q701 q702 q703 rfl rfl (by omega) (Nat.le_refl _) (Nat.le_refl _) (Nat.le_of_ble_eq_true rfl) (tC.mono pJ4_coder fun o μ1 q => ?_)
  obtain ⟨rfl, rfl⟩ := q
  refine g_ishr (a := 50) (b := 0) dJ4_length_9 ?_
  have e : i_shr 50 0 = 50 := by decide
  rw [e]
  exact g_iret dJ4_length_10 rfl (Nat.le_refl _) (Nat.le_refl _) ⟨rfl, rfl⟩
theorem pJ10_checkIndex (h0 : 0 ≤ i) (h1 : i < n) (hτ : τ ≠ 1) : tC mJ10_checkIndex d 0 0 [(0, i), (0, n), (τ, x)] μ (q_is μ i) := by
  refine tC_of rfl (by unfold tl_words; simp [tl_words, hτ]) ?_
  refine g_iload_n (q := 0) dJ10_checkIndex_0 rfl rfl ?_
  refine g_if_lt (tgt := 9) dJ10_checkIndex_1 (by decide) (fun c => by omega) (fun _ => ?_)
  refine g_iload_n (q := 0) dJ10_checkIndex_4 rfl rfl ?_
  refine g_iload_n (q := 1) dJ10_checkIndex_5 rfl rfl ?_
  refine g_icmp_lt (tgt := 16) dJ10_checkIndex_6 (by decide) (fun _ => ?_) (fun c => by omega)
  refine g_iload_n (q := 0) dJ10_checkIndex_16 rfl rfl ?_
  exact g_iret dJ10_checkIndex_17 rfl (Nat.le_refl _) (Nat.le_refl _) ⟨rfl, rfl⟩
theorem pJ4_checkIndex (hd : 1 ≤ d) (h0 : 0 ≤ i) (h1 : i < n) : tC mJ4_checkIndex d 0 0 [(0, i), (0, n)] μ (fun o μ1 => o = .inl none ∧ μ1 = μ) := by
  refine tC_of rfl (Nat.le_of_ble_eq_true rfl) ?_
  have tail : ∀ (τ : Nat) (x : Int), τ ≠ 1 → tH mJ4_checkIndex d 0 0 (tq (fun o μ1 => o = .inl none ∧ μ1 = μ) 0 0) 5 [(0, 0, i), (1, 0, n)] [(τ, x), (0, n), (0, i)] μ 0 0 := by
    intro τ x hτ
    refine g_callS (d' := d - 1) (as := [(0, i), (0, n), (τ, x)]) (S := []) dJ4_checkIndex_5 kJ10_checkIndex q723 q724 rfl rfl (by omega) (Nat.le_refl _) (Nat.le_refl _) (Nat.le_of_ble_eq_true rfl) (tC.mono (pJ10_checkIndex h0 h1 hτ) fun o μ1 q => ?_)
    obtain ⟨rfl, rfl⟩ := q
    refine g_pop (τ := 0) (x := i) dJ4_checkIndex_8 (by decide) ?_
    exact g_vret dJ4_checkIndex_9 rfl (Nat.le_refl _) (Nat.le_refl _) ⟨rfl, rfl⟩
  refine g_iload_n (q := 0) dJ4_checkIndex_0 rfl rfl ?_
  refine g_iload_n (q := 1) dJ4_checkIndex_1 rfl rfl ?_
  exact g_gsF dJ4_checkIndex_2 q721 (tail 2 0 (by decide)) (tail 6 4 (by decide))
theorem KC_and (i : Int) : i_and (KC i) 255 = KC i := by
  have h : ∀ x ∈ KB, i_and x 255 = x := by decide
  unfold KC
  rw [List.getD_eq_getElem?_getD]
  cases hq : KB[i.toNat]? with
  | none => decide
  | some x => exact h x (List.mem_of_getElem? hq)
theorem KC_nar (i : Int) : narrow .char (.int (Int32.ofInt (KC i))) = .int (Int32.ofInt (KC i)) := by
  have h : ∀ x ∈ KB, narrow .char (.int (Int32.ofInt x)) = .int (Int32.ofInt x) := by decide +kernel
  unfold KC
  rw [List.getD_eq_getElem?_getD]
  cases hq : KB[i.toNat]? with
  | none => decide +kernel
  | some x => exact h x (List.mem_of_getElem? hq)
theorem pJ9_charAt (hd : 2 ≤ d) (h0 : 0 ≤ i) (h1 : i < 50) : tC mJ9_charAt d 0 0 [(6, 3), (0, i)] μ (q_is μ (KC i)) := by
  have hk := KC_in i
  refine tC_of rfl (Nat.le_of_ble_eq_true rfl) ?_
  refine g_iload_n (q := 1) dJ9_charAt_0 rfl rfl ?_
  refine g_aloadO_n (q := 0) dJ9_charAt_1 rfl rfl ?_
  refine g_alenK dJ9_charAt_2 ?_
  refine g_callS (d' := d - 1) (as := [(0, i), (0, 50)]) (S := []) dJ9_charAt_3 kJ4_checkIndex q718 q719 rfl rfl (by omega) (Nat.le_refl _) (Nat.le_refl _) (Nat.le_of_ble_eq_true rfl) (tC.mono (pJ4_checkIndex (by omega) h0 h1) fun o μ1 q => ?_)
  obtain ⟨rfl, rfl⟩ := q
  refine g_aloadO_n (q := 0) dJ9_charAt_6 rfl rfl ?_
  refine g_iload_n (q := 1) dJ9_charAt_7 rfl rfl ?_
  refine g_baldK dJ9_charAt_8 h0 h1 ?_
  refine g_sipush dJ9_charAt_9 ⟨by decide, by decide, rfl⟩ ?_
  refine g_iand dJ9_charAt_12 ?_
  rw [KC_and]
  refine g_i2c dJ9_charAt_13 hk.1 (by omega) ?_
  exact g_nret dJ9_charAt_14 rfl (KC_nar i) (Nat.le_refl _) (Nat.le_refl _) ⟨rfl, rfl⟩
theorem pJ4_charAt (hd : 3 ≤ d) (h0 : 0 ≤ i) (h1 : i < 50) : tC mJ4_charAt d 0 0 [(6, 2), (0, i)] μ (q_is μ (KC i)) := by
  refine tC_of rfl (Nat.le_of_ble_eq_true rfl) ?_
  refine g_aloadO_n (q := 0) dJ4_charAt_0 rfl rfl ?_
  refine g_callK (d' := d - 1) (as := []) (S := []) dJ4_charAt_1 kJ4_isLatin1 q711 q712 q713 rfl rfl (by omega) (Nat.le_refl _) (Nat.le_refl _) (Nat.le_of_ble_eq_true rfl) (tC.mono pJ4_isLatin1 fun o μ1 q => ?_)
  obtain ⟨rfl, rfl⟩ := q
  refine g_if_eq (tgt := 16) dJ4_charAt_4 (by decide) (fun c => absurd c (by decide)) (fun _ => ?_)
  refine g_aloadO_n (q := 0) dJ4_charAt_7 rfl rfl ?_
  refine g_getV dJ4_charAt_8 q1872 ?_
  refine g_iload_n (q := 1) dJ4_charAt_11 rfl rfl ?_
  refine g_callS (d' := d - 1) (as := [(6, 3), (0, i)]) (S := []) dJ4_charAt_12 kJ9_charAt q715 q716 rfl rfl (by omega) (Nat.le_refl _) (Nat.le_refl _) (Nat.le_of_ble_eq_true rfl) (tC.mono (pJ9_charAt (by omega) h0 h1) fun o μ1 q => ?_)
  obtain ⟨rfl, rfl⟩ := q
  exact g_nret dJ4_charAt_15 rfl (KC_nar i) (Nat.le_refl _) (Nat.le_refl _) ⟨rfl, rfl⟩
end KSTR
section KCALL
variable {M : tM} {d mc ms : Nat} {F : tF} {pc : Nat} {L : tLs} {S : tSt} {μ : tm_M} {nc ns : Nat}
theorem g_slen {idx : Nat} (hd : decode M.2.1 pc = .ok (.invokevirtual idx, 3)) (hq : Cond.methodLink M.1.cls idx mJ4_length.1 ∈ lw_all) (hdd : 2 ≤ d) (h1 : nc ≤ mc) (h2 : ns ≤ ms) (hS8 : S.length ≤ 8) (h : tH M d mc ms F (pc + 3) L ((0, 50) :: S) μ nc ns) : tH M d mc ms F pc L ((6, 2) :: S) μ nc ns := by
  refine g_callK (d' := d - 1) (mc' := 0) (ms' := 0) (as := []) hd kJ4_length hq q698 q699 rfl rfl (by omega) (by omega) (by omega) hS8 (tC.mono (pJ4_length (by omega)) fun o μ1 q => ?_)
  obtain ⟨rfl, rfl⟩ := q
  exact h
theorem g_schr {idx : Nat} {i : Int} (hd : decode M.2.1 pc = .ok (.invokevirtual idx, 3)) (hq : Cond.methodLink M.1.cls idx mJ4_charAt.1 ∈ lw_all) (hi : 0 ≤ i ∧ i < KL) (hdd : 4 ≤ d) (h1 : nc ≤ mc) (h2 : ns ≤ ms) (hS8 : S.length ≤ 8) (h : tH M d mc ms F (pc + 3) L ((0, KC i) :: S) μ nc ns) : tH M d mc ms F pc L ((0, i) :: (6, 2) :: S) μ nc ns := by
  refine g_callK (d' := d - 1) (mc' := 0) (ms' := 0) (as := [(0, i)]) hd kJ4_charAt hq q708 q709 rfl rfl (by omega) (by omega) (by omega) hS8 (tC.mono (pJ4_charAt (by omega) hi.1 hi.2) fun o μ1 q => ?_)
  obtain ⟨rfl, rfl⟩ := q
  exact h
end KCALL
