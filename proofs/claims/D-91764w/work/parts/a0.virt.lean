/-! CALLS of ways: by their kinds -/
theorem fl_l {a b w : Cond} (h : w ∈ flatC a) : w ∈ flatC (Cond.and a b) := by unfold flatC; exact List.mem_append_left _ h
theorem fl_r {a b w : Cond} (h : w ∈ flatC b) : w ∈ flatC (Cond.and a b) := by unfold flatC; exact List.mem_append_right _ h
theorem tw_step0 : tw_any (Cond.methodLink "TwoSeek" 338 ⟨"TwoSeek$Way", "step", "(LTwoSeek$Walker;)I"⟩) := Or.inr ⟨fl_r (fl_l (fl_l (fl_l (fl_l (fl_l (fl_l (fl_l (fl_l (List.mem_singleton.mpr rfl))))))))), rfl⟩
theorem tw_stepS : tw_any (Cond.sameMethod "TwoSeek$Way" "TwoSeek$Leads" "step" "(LTwoSeek$Walker;)I") := Or.inr ⟨fl_r (fl_l (fl_l (fl_l (fl_l (fl_l (fl_l (fl_l (fl_r (fl_l (List.mem_singleton.mpr rfl)))))))))), rfl⟩
theorem tw_step3 : tw_any (Cond.methodLink "TwoSeek$Walker" 24 ⟨"TwoSeek$Way", "step", "(LTwoSeek$Walker;)I"⟩) := Or.inr ⟨fl_r (fl_l (fl_l (fl_l (fl_l (fl_l (fl_l (fl_l (fl_r (fl_r (fl_r (fl_l (List.mem_singleton.mpr rfl)))))))))))), rfl⟩
theorem tWs_none (a j : Int) : ¬ tWs [] [] a j := by rintro (q | q) <;> cases q
section VIRT
variable {M : tM} {d d' : Nat} {F : tF} {pc : Nat} {L : tLs} {S : tSt} {μ μ0 : tm_M} {W : Int → Int → Prop}
/-- a way tells a step, by its kind -/
def vStep (d : Nat) (x w : Int) (μ : tm_M) (K : Int → tm_M → Prop) : Prop := 1 ≤ x ∧ ((tm_k μ x = 9 ∧ cI w0 mX10_step d [(2, x), (2, w)] μ K) ∨ (tm_k μ x = 10 ∧ cI w0 mX10_step d [(2, x), (2, w)] μ K) ∨ (tm_k μ x = 11 ∧ cI w0 mX12_step d [(2, x), (2, w)] μ K))
def vGoes (d : Nat) (x w : Int) (μ : tm_M) (K : tm_M → Prop) : Prop := 1 ≤ x ∧ ((tm_k μ x = 9 ∧ cV (tWs [w] []) mX9_goesOn d [(2, x), (2, w)] μ K) ∨ (tm_k μ x = 10 ∧ cV (tWs [w] []) mX11_goesOn d [(2, x), (2, w)] μ K) ∨ (tm_k μ x = 11 ∧ cV (tWs [w] []) mX12_goesOn d [(2, x), (2, w)] μ K))
theorem g_vStep {idx : Nat} {x w : Int} {K' : Int → tm_M → Prop} (hd : decode M.2.1 pc = .ok (.invokevirtual idx, 3)) (hq1 : tw_any (Cond.methodLink M.1.cls idx ⟨"TwoSeek$Way", "step", "(LTwoSeek$Walker;)I"⟩)) (hdd : d' + 1 ≤ d) (hS8 : S.length ≤ 8) (hs : tFr W μ0 μ) (h : vStep d' x w μ K') (k : ∀ r μ', tFr W μ0 μ' → K' r μ' → tH M d 0 0 F (pc + 3) L ((0, r) :: S) μ' 0 0) : tH M d 0 0 F pc L ((2, w) :: (2, x) :: S) μ 0 0 := by
  obtain ⟨h1, ⟨hk, hc⟩ | ⟨hk, hc⟩ | ⟨hk, hc⟩⟩ := h
  · exact g_callU (as := [(2, w)]) (mc' := 0) (ms' := 0) hd kX10_step hq1 tw_stepS q991 q989 q987 ⟨by decide, by decide⟩ (ci := 9) rfl (by decide) rfl rfl hdd h1 hk (Nat.le_refl _) (Nat.le_refl _) hS8 (t_kI hs (fun a j q => absurd q (tWs_none a j)) hc k)
  · exact g_callU (as := [(2, w)]) (mc' := 0) (ms' := 0) hd kX10_step hq1 tw_stepS q988 q989 q987 ⟨by decide, by decide⟩ (ci := 10) rfl (by decide) rfl rfl hdd h1 hk (Nat.le_refl _) (Nat.le_refl _) hS8 (t_kI hs (fun a j q => absurd q (tWs_none a j)) hc k)
  · exact g_callU (as := [(2, w)]) (mc' := 0) (ms' := 0) hd kX12_step hq1 tw_stepS q992 q993 q987 ⟨by decide, by decide⟩ (ci := 11) rfl (by decide) rfl rfl hdd h1 hk (Nat.le_refl _) (Nat.le_refl _) hS8 (t_kI hs (fun a j q => absurd q (tWs_none a j)) hc k)
theorem g_vGoes {idx : Nat} {x w : Int} {K' : tm_M → Prop} (hd : decode M.2.1 pc = .ok (.invokevirtual idx, 3)) (hq1 : tw_any (Cond.methodLink M.1.cls idx ⟨"TwoSeek$Way", "goesOn", "(LTwoSeek$Walker;)V"⟩)) (hdd : d' + 1 ≤ d) (hS8 : S.length ≤ 8) (hs : tFr W μ0 μ) (hw : ∀ j, W w j) (h : vGoes d' x w μ K') (k : ∀ μ', tFr W μ0 μ' → K' μ' → tH M d 0 0 F (pc + 3) L S μ' 0 0) : tH M d 0 0 F pc L ((2, w) :: (2, x) :: S) μ 0 0 := by
  have sub : ∀ a j, tWs [w] [] a j → W a j := by
    rintro a j (q | q)
    · rw [List.mem_singleton.mp q]; exact hw j
    · cases q
  obtain ⟨h1, ⟨hk, hc⟩ | ⟨hk, hc⟩ | ⟨hk, hc⟩⟩ := h
  · exact g_callU (as := [(2, w)]) (mc' := 0) (ms' := 0) hd kX9_goesOn hq1 (Or.inl q1006) q1013 q1005 q1012 ⟨by decide, by decide⟩ (ci := 9) rfl (by decide) rfl rfl hdd h1 hk (Nat.le_refl _) (Nat.le_refl _) hS8 (t_kV hs sub hc k)
  · exact g_callU (as := [(2, w)]) (mc' := 0) (ms' := 0) hd kX11_goesOn hq1 (Or.inl q1006) q1007 q1008 q1012 ⟨by decide, by decide⟩ (ci := 10) rfl (by decide) rfl rfl hdd h1 hk (Nat.le_refl _) (Nat.le_refl _) hS8 (t_kV hs sub hc k)
  · exact g_callU (as := [(2, w)]) (mc' := 0) (ms' := 0) hd kX12_goesOn hq1 (Or.inl q1006) q1014 q1015 q1012 ⟨by decide, by decide⟩ (ci := 11) rfl (by decide) rfl rfl hdd h1 hk (Nat.le_refl _) (Nat.le_refl _) hS8 (t_kV hs sub hc k)
/-! super's goesOn -/
theorem g_superA {w x : Int} {K' : tm_M → Prop} {L : tLs} (hd : decode mX11_goesOn.2.1 pc = .ok (.invokespecial 7, 3)) (hdd : d' + 1 ≤ d) (hS8 : S.length ≤ 8) (hs : tFr W μ0 μ) (hw : ∀ j, W w j) (h1 : 1 ≤ x) (hk : tm_k μ x = 10) (hc : cV (tWs [w] []) mX9_goesOn d' [(2, x), (2, w)] μ K') (k : ∀ μ', tFr W μ0 μ' → K' μ' → tH mX11_goesOn d 0 0 F (pc + 3) L S μ' 0 0) : tH mX11_goesOn d 0 0 F pc L ((2, w) :: (2, x) :: S) μ 0 0 := by
  have sub : ∀ a j, tWs [w] [] a j → W a j := by
    rintro a j (q | q)
    · rw [List.mem_singleton.mp q]; exact hw j
    · cases q
  exact g_callSU (as := [(2, w)]) (mc' := 0) (ms' := 0) hd kX9_goesOn (Or.inl q1010) (Or.inl q1011) rfl q1005 q942 (Or.inr q947) (by decide) (ci := 10) rfl (by decide) rfl rfl hdd h1 hk (Nat.le_refl _) (Nat.le_refl _) hS8 (t_kV hs sub hc k)
theorem g_superS {w x : Int} {K' : tm_M → Prop} {L : tLs} (hd : decode mX12_goesOn.2.1 pc = .ok (.invokespecial 34, 3)) (hdd : d' + 1 ≤ d) (hS8 : S.length ≤ 8) (hs : tFr W μ0 μ) (hw : ∀ j, W w j) (h1 : 1 ≤ x) (hk : tm_k μ x = 11) (hc : cV (tWs [w] []) mX9_goesOn d' [(2, x), (2, w)] μ K') (k : ∀ μ', tFr W μ0 μ' → K' μ' → tH mX12_goesOn d 0 0 F (pc + 3) L S μ' 0 0) : tH mX12_goesOn d 0 0 F pc L ((2, w) :: (2, x) :: S) μ 0 0 := by
  have sub : ∀ a j, tWs [w] [] a j → W a j := by
    rintro a j (q | q)
    · rw [List.mem_singleton.mp q]; exact hw j
    · cases q
  exact g_callSU (as := [(2, w)]) (mc' := 0) (ms' := 0) hd kX9_goesOn (Or.inl q1017) (Or.inl q1006) rfl q1005 q964 (Or.inl rfl) (by decide) (ci := 11) rfl (by decide) rfl rfl hdd h1 hk (Nat.le_refl _) (Nat.le_refl _) hS8 (t_kV hs sub hc k)
end VIRT
