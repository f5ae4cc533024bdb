/-! PURE: what is read is well made; CONTRACTS of the model: taken, town -/
section C7H
variable {tx : Int → Int} {n : Int} {t : TK} {s : TN}
theorem tok_adv (h : ken t ≤ n) : ken t ≤ ken (tok tx n (ken t)) ∧ ken (tok tx n (ken t)) ≤ n ∧ (kso (tok tx n (ken t)) ≠ 0 → ken t < ken (tok tx n (ken t))) := by
  have := tok_in (tx := tx) h
  exact ⟨by omega, by omega, fun q => by have := this.2.2.2 q; omega⟩
theorem p_cnt_ok {lo hi v : Int} {t' : TK} (h : p_cnt tx n t lo hi = .ok (v, t')) : (lo ≤ v ∧ v ≤ hi) ∧ t' = tok tx n (ken t) := by
  unfold p_cnt at h
  split at h
  · cases h
  · split at h
    · cases h
    · rename_i c
      cases h
      exact ⟨Classical.not_not.mp c, rfl⟩
theorem ftT_in (t : TK) : ftT t = -1 ∨ ftT t = 0 ∨ ftT t = 1 ∨ ftT t = 2 := by unfold ftT; split; omega; split; omega; split <;> omega
theorem p_fts_ok {p : Int} (q : Nat) : ∀ {g f f' : Int → Int} {t t' : TK}, p_fts tx n p q g f t = .ok (f', t') → ken t ≤ n → (0 ≤ f (3 * p) ∧ f (3 * p) ≤ 5) → (0 ≤ f (3 * p + 1) ∧ f (3 * p + 1) ≤ 9) → (0 ≤ f (3 * p + 2) ∧ f (3 * p + 2) ≤ 9) →
    (ken t ≤ ken t' ∧ ken t' ≤ n) ∧ (0 ≤ f' (3 * p) ∧ f' (3 * p) ≤ 5) ∧ (0 ≤ f' (3 * p + 1) ∧ f' (3 * p + 1) ≤ 9) ∧ (0 ≤ f' (3 * p + 2) ∧ f' (3 * p + 2) ≤ 9) ∧ ∀ j, (j < 3 * p ∨ 3 * p + 2 < j) → f' j = f j := by
  induction q with
  | zero =>
    intro g f f' t t' h hn h0 h1 h2
    rw [p_fts] at h
    cases h
    exact ⟨⟨Int.le_refl _, hn⟩, h0, h1, h2, fun j _ => rfl⟩
  | succ q ih =>
    intro g f f' t t' h hn h0 h1 h2
    rw [p_fts] at h
    split at h
    · cases h
      exact ⟨⟨Int.le_refl _, hn⟩, h0, h1, h2, fun j _ => rfl⟩
    · rename_i c
      split at h
      · cases h
      · split at h
        · cases h
        · rename_i v t2 hc
          have k := p_cnt_ok hc
          have a1 := tok_adv (tx := tx) (t := t) hn
          have a2 := tok_adv (tx := tx) (t := tok tx n (ken t)) a1.2.1
          have hv : (ftT t = 0 → 0 ≤ v ∧ v ≤ 5) ∧ (0 ≤ v ∧ v ≤ 9) := by
            have := k.1
            split at this <;> constructor <;> omega
          have hf := ftT_in t
          have e : ∀ j, fup f (3 * p + ftT t) v j = if j = 3 * p + ftT t then v else f j := fun j => rfl
          have := ih h (by rw [k.2]; omega) (by rw [e]; split; (have := hv.1 (by omega); omega); exact h0) (by rw [e]; split; omega; exact h1) (by rw [e]; split; omega; exact h2)
          obtain ⟨b1, b2, b3, b4, b5⟩ := this
          rw [k.2] at b1
          refine ⟨⟨by omega, b1.2⟩, b2, b3, b4, fun j hj => ?_⟩
          rw [b5 j hj, e, if_neg (by omega)]
theorem p_end_ok {s' : TN} {t' : TK} (h : p_end tx n s t = .ok (s', t')) : s' = s ∧ t' = tok tx n (ken t) := by
  unfold p_end at h
  split at h
  · cases h
  · cases h; exact ⟨rfl, rfl⟩
def adv (tx : Int → Int) (n : Int) (t t' : TK) : Prop := (kso t' ≠ 0 → ken t < ken t') ∧ 0 ≤ ken t' ∧ ken t' ≤ n
theorem adv_of {t u : TK} (h0 : 0 ≤ ken t) (h1 : ken t ≤ ken u) (h2 : ken u ≤ n) : adv tx n t (tok tx n (ken u)) := by
  have := tok_adv (tx := tx) (t := u) h2
  exact ⟨fun q => by have := this.2.2 q; omega, by omega, this.2.1⟩
theorem p_pl_ok {s' : TN} {t' : TK} (h : p_pl tx n s t = .ok (s', t')) (h0 : 0 ≤ ken t) (hn : ken t ≤ n) (hw : wfT s) : wfT s' ∧ adv tx n t t' := by
  unfold p_pl at h
  split at h
  · cases h
  · split at h
    · cases h
    · split at h
      · cases h
      · rename_i c8
        unfold p_pl2 at h
        split at h
        · cases h
        · rename_i f t2 hc
          have a1 := tok_adv (tx := tx) (t := t) hn
          obtain ⟨b1, b2, b3, b4, b5⟩ := p_fts_ok 4 hc a1.2.1 (by unfold fup; rw [if_neg (by omega), if_neg (by omega), if_pos rfl]; omega) (by unfold fup; rw [if_neg (by omega), if_pos rfl]; omega) (by unfold fup; rw [if_pos rfl]; omega)
          obtain ⟨e1, e2⟩ := p_end_ok h
          subst e1 e2
          refine ⟨?_, adv_of h0 (by omega) b1.2⟩
          obtain ⟨w1, w2, w3, w4⟩ := hw
          refine ⟨⟨?_, w1.2⟩, fun p p0 p1 => ?_, fun l l0 l1 => ?_, w4⟩
          · show 0 ≤ n_p s + 1 ∧ n_p s + 1 ≤ 8
            have := w1.1; omega
          · have p1' : p < n_p s + 1 := p1
            show (0 ≤ fup (n_d s) (n_p s) 0 p ∧ fup (n_d s) (n_p s) 0 p ≤ 4) ∧ (0 ≤ f (3 * p) ∧ f (3 * p) ≤ 5) ∧ (0 ≤ f (3 * p + 1) ∧ f (3 * p + 1) ≤ 9) ∧ (0 ≤ f (3 * p + 2) ∧ f (3 * p + 2) ≤ 9) ∧ ∀ k, 0 ≤ k → k < fup (n_d s) (n_p s) 0 p → (0 ≤ n_a s (4 * p + k) ∧ n_a s (4 * p + k) < n_l s) ∧ (n_1 s (n_a s (4 * p + k)) = p ∨ n_2 s (n_a s (4 * p + k)) = p)
            unfold fup
            by_cases e : p = n_p s
            · subst e
              rw [if_pos rfl]
              exact ⟨by omega, b2, b3, b4, fun k k0 k1 => by omega⟩
            · rw [if_neg e]
              obtain ⟨z1, z2, z3, z4, z5⟩ := w2 p p0 (by omega)
              have ef : ∀ j, j < 3 * n_p s → f j = n_f s j := fun j hj => by rw [b5 j (Or.inl hj)]; unfold fup; rw [if_neg (by omega), if_neg (by omega), if_neg (by omega)]
              rw [ef _ (by omega), ef _ (by omega), ef _ (by omega)]
              exact ⟨z1, z2, z3, z4, z5⟩
          · obtain ⟨z1, z2, z3, z4, z5⟩ := w3 l l0 l1
            show (0 ≤ n_1 s l ∧ n_1 s l < n_p s + 1) ∧ (0 ≤ n_2 s l ∧ n_2 s l < n_p s + 1) ∧ n_1 s l ≠ n_2 s l ∧ (∃ k, (0 ≤ k ∧ k < fup (n_d s) (n_p s) 0 (n_1 s l)) ∧ n_a s (4 * n_1 s l + k) = l) ∧ ∃ k, (0 ≤ k ∧ k < fup (n_d s) (n_p s) 0 (n_2 s l)) ∧ n_a s (4 * n_2 s l + k) = l
            unfold fup
            rw [if_neg (by omega), if_neg (by omega)]
            exact ⟨by omega, by omega, z3, z4, z5⟩
theorem lay_wf {a b : Int} (hw : wfT s) (ha : 0 ≤ a ∧ a < n_p s) (hb : 0 ≤ b ∧ b < n_p s) (hab : a ≠ b) (da : n_d s a ≠ 4) (db : n_d s b ≠ 4) (hl : n_l s ≠ 12) : wfT (n_lay s a b) := by
  obtain ⟨w1, w2, w3, w4⟩ := hw
  have wa := (w2 a ha.1 ha.2).1
  have wb := (w2 b hb.1 hb.2).1
  have eD : ∀ p, n_d (n_lay s a b) p = if p = b then n_d s b + 1 else if p = a then n_d s a + 1 else n_d s p := fun p => rfl
  have eA : ∀ j, n_a (n_lay s a b) j = if j = 4 * b + n_d s b then n_l s else if j = 4 * a + n_d s a then n_l s else n_a s j := fun p => rfl
  have e1 : ∀ l, n_1 (n_lay s a b) l = if l = n_l s then a else n_1 s l := fun l => rfl
  have e2 : ∀ l, n_2 (n_lay s a b) l = if l = n_l s then b else n_2 s l := fun l => rfl
  have eL : n_l (n_lay s a b) = n_l s + 1 := rfl
  have eP : n_p (n_lay s a b) = n_p s := rfl
  refine ⟨⟨w1.1, by rw [eL]; omega, by rw [eL]; omega⟩, fun p p0 p1 => ?_, fun l l0 l1 => ?_, w4⟩
  · rw [eP] at p1
    obtain ⟨z1, z2, z3, z4, z5⟩ := w2 p p0 p1
    refine ⟨?_, z2, z3, z4, fun k k0 k1 => ?_⟩
    · rw [eD]
      by_cases x1 : p = b
      · rw [if_pos x1]; omega
      · rw [if_neg x1]
        by_cases x2 : p = a
        · rw [if_pos x2]; omega
        · rw [if_neg x2]; exact z1
    · rw [eL]
      have hk4 : k < 4 := by
        rw [eD] at k1
        by_cases x1 : p = b
        · rw [if_pos x1] at k1; omega
        · rw [if_neg x1] at k1
          by_cases x2 : p = a
          · rw [if_pos x2] at k1; omega
          · rw [if_neg x2] at k1; omega
      rw [eA]
      by_cases q1 : 4 * p + k = 4 * b + n_d s b
      · rw [if_pos q1]
        refine ⟨by omega, Or.inr ?_⟩
        rw [e2, if_pos rfl]; omega
      · rw [if_neg q1]
        by_cases q2 : 4 * p + k = 4 * a + n_d s a
        · rw [if_pos q2]
          refine ⟨by omega, Or.inl ?_⟩
          rw [e1, if_pos rfl]; omega
        · rw [if_neg q2]
          have hk : k < n_d s p := by
            rw [eD] at k1
            by_cases x1 : p = b
            · rw [if_pos x1] at k1; subst x1; omega
            · rw [if_neg x1] at k1
              by_cases x2 : p = a
              · rw [if_pos x2] at k1; subst x2; omega
              · rw [if_neg x2] at k1; exact k1
          obtain ⟨y1, y2⟩ := z5 k k0 hk
          rw [e1, e2, if_neg (by omega), if_neg (by omega)]
          exact ⟨by omega, y2⟩
  · rw [eL] at l1
    rw [eP, e1, e2]
    by_cases x : l = n_l s
    · rw [if_pos x, if_pos x]
      refine ⟨ha, hb, hab, ⟨n_d s a, ?_, ?_⟩, ⟨n_d s b, ?_, ?_⟩⟩
      · rw [eD, if_neg hab, if_pos rfl]; omega
      · rw [eA, if_neg (by omega), if_pos rfl, x]
      · rw [eD, if_pos rfl]; omega
      · rw [eA, if_pos rfl, x]
    · rw [if_neg x, if_neg x]
      obtain ⟨z1, z2, z3, ⟨k1, h1, h1'⟩, ⟨k2, h2, h2'⟩⟩ := w3 l l0 (by omega)
      have up : ∀ p k, 0 ≤ p → p < n_p s → 0 ≤ k → k < n_d s p → k < n_d (n_lay s a b) p ∧ n_a (n_lay s a b) (4 * p + k) = n_a s (4 * p + k) := by
        intro p k p0 p1 k0 hk
        have zp := (w2 p p0 p1).1
        rw [eD, eA]
        have i1 : ¬ 4 * p + k = 4 * b + n_d s b := by
          intro q
          have : p = b := by omega
          subst this; omega
        have i2 : ¬ 4 * p + k = 4 * a + n_d s a := by
          intro q
          have : p = a := by omega
          subst this; omega
        rw [if_neg i1, if_neg i2]
        refine ⟨?_, rfl⟩
        by_cases x1 : p = b
        · rw [if_pos x1]; subst x1; omega
        · rw [if_neg x1]
          by_cases x2 : p = a
          · rw [if_pos x2]; subst x2; omega
          · rw [if_neg x2]; exact hk
      have u1 := up _ k1 z1.1 z1.2 h1.1 h1.2
      have u2 := up _ k2 z2.1 z2.2 h2.1 h2.2
      exact ⟨z1, z2, z3, ⟨k1, ⟨h1.1, u1.1⟩, by rw [u1.2]; exact h1'⟩, ⟨k2, ⟨h2.1, u2.1⟩, by rw [u2.2]; exact h2'⟩⟩
theorem p_ln_ok {s' : TN} {t' : TK} (h : p_ln tx n s t = .ok (s', t')) (h0 : 0 ≤ ken t) (hn : ken t ≤ n) (hw : wfT s) : wfT s' ∧ adv tx n t t' := by
  have a1 := tok_adv (tx := tx) (t := t) hn
  have a2 := tok_adv (tx := tx) (t := tok tx n (ken t)) a1.2.1
  have a3 := tok_adv (tx := tx) (t := tok tx n (ken (tok tx n (ken t)))) a2.2.1
  have a4 := tok_adv (tx := tx) (t := tok tx n (ken (tok tx n (ken (tok tx n (ken t)))))) a3.2.1
  unfold p_ln at h
  split at h
  · cases h
  · rename_i c12
    unfold p_ln1 at h
    split at h
    · cases h
    · split at h
      · cases h
      · rename_i cn1
        split at h
        · cases h
        · rename_i d1
          unfold p_ln2 at h
          split at h
          · cases h
          · unfold p_ln3 at h
            split at h
            · cases h
            · split at h
              · cases h
              · rename_i cn2
                split at h
                · cases h
                · rename_i hab
                  split at h
                  · cases h
                  · rename_i d2
                    split at h
                    · cases h
                    · obtain ⟨e1, e2⟩ := p_end_ok h
                      subst e1 e2
                      have k1 := p_nm_in (s := s) (w := kva (tok tx n (ken t))) (by omega)
                      have k2 := p_nm_in (s := s) (w := kva (tok tx n (ken (tok tx n (ken (tok tx n (ken t))))))) (by omega)
                      exact ⟨lay_wf hw ⟨by omega, k1.1⟩ ⟨by omega, k2.1⟩ hab d1 d2 c12, adv_of h0 (by omega) (by omega)⟩
theorem p_rs_ok {s' : TN} {t' : TK} (h : p_rs tx n s t = .ok (s', t')) (h0 : 0 ≤ ken t) (hn : ken t ≤ n) (hw : wfT s) : wfT s' ∧ adv tx n t t' := by
  have a1 := tok_adv (tx := tx) (t := t) hn
  have a2 := tok_adv (tx := tx) (t := tok tx n (ken t)) a1.2.1
  obtain ⟨w1, w2, w3, w4, w5, w6⟩ := hw
  unfold p_rs at h
  split at h
  · split at h
    · cases h
    · split at h
      · cases h
      · rename_i v t2 hc
        have k := p_cnt_ok hc
        obtain ⟨e1, e2⟩ := p_end_ok h
        subst e1 e2
        rw [k.2]
        exact ⟨⟨w1, w2, w3, k.1, w5, w6⟩, adv_of h0 (by omega) (by omega)⟩
  · split at h
    · split at h
      · cases h
      · split at h
        · cases h
        · rename_i v t2 hc
          have k := p_cnt_ok hc
          obtain ⟨e1, e2⟩ := p_end_ok h
          subst e1 e2
          rw [k.2]
          exact ⟨⟨w1, w2, w3, w4, k.1, w6⟩, adv_of h0 (by omega) (by omega)⟩
    · split at h
      · split at h
        · cases h
        · obtain ⟨e1, e2⟩ := p_end_ok h
          subst e1 e2
          refine ⟨⟨w1, w2, w3, w4, w5, ?_⟩, adv_of h0 (by omega) (by omega)⟩
          show (0 : Int) ≤ 1 ∧ (1 : Int) ≤ 1
          decide
      · cases h
theorem p_pt_ok {s' : TN} {t' : TK} (h : p_pt tx n s t = .ok (s', t')) (h0 : 0 ≤ ken t) (hn : ken t ≤ n) (hw : wfT s) : wfT s' ∧ adv tx n t t' := by
  unfold p_pt at h
  split at h
  · have a1 := tok_adv (tx := tx) (t := t) hn
    have := p_pl_ok h (by omega) a1.2.1 hw
    exact ⟨this.1, fun q => by have := this.2.1 q; omega, this.2.2⟩
  · split at h
    · exact p_ln_ok h h0 hn hw
    · exact p_rs_ok h h0 hn hw
theorem wf_tn0 : wfT tn0 := by
  refine ⟨⟨⟨Int.le_refl _, show (0 : Int) ≤ 8 by decide⟩, Int.le_refl _, show (0 : Int) ≤ 12 by decide⟩, fun p p0 p1 => ?_, fun l l0 l1 => ?_, show (1 : Int) ≤ 1 ∧ (1 : Int) ≤ 4 by decide, show (0 : Int) ≤ 0 ∧ (0 : Int) ≤ 3 by decide, show (0 : Int) ≤ 0 ∧ (0 : Int) ≤ 1 by decide⟩
  · have : p < 0 := p1
    omega
  · have : l < 0 := l1
    omega
end C7H
section C7I
variable {d : Nat} {μ μ0 : tm_M} {W : Int → Int → Prop} {tx : Int → Int} {n : Int} {t : TK} {s : TN}
/-- the town is s -/
def isT (m : tm_M) (s : TN) : Prop := (tm_v m 65 20 = n_p s ∧ tm_v m 65 21 = n_l s) ∧ (∀ p, 0 ≤ p → p < n_p s → tm_v m 72 p = n_d s p ∧ (∀ j, 0 ≤ j → j < 3 → tm_v m 70 (3 * p + j) = n_f s (3 * p + j)) ∧ ∀ k, 0 ≤ k → k < n_d s p → tm_v m 74 (4 * p + k) = n_a s (4 * p + k)) ∧
  (∀ l, 0 ≤ l → l < n_l s → tm_v m 76 l = n_1 s l ∧ tm_v m 77 l = n_2 s l) ∧ (∀ l, 0 ≤ l → l < 12 → tm_v m 80 l = 0) ∧ tm_v m 65 24 = n_s s ∧ tm_v m 65 25 = n_h s ∧ tm_v m 65 28 = n_c s ∧ tm_v m 65 30 = 0
theorem isT_W {m : tm_M} (h : isT m s) (hw : wfT s) : y_W m := by
  obtain ⟨⟨a1, a2⟩, a3, a4, a5, a6, a7, a8, a9⟩ := h
  obtain ⟨w1, w2, w3, w4, w5, w6⟩ := hw
  refine ⟨by rw [a1]; exact w1.1, by rw [a2]; exact w1.2, fun p p0 p1 => ?_, fun l l0 l1 => ?_, by rw [a6]; exact w4, by rw [a7]; exact w5, fun l l0 l1 => ?_⟩
  · rw [a1] at p1
    obtain ⟨z1, z2, z3⟩ := a3 p p0 p1
    obtain ⟨y1, y2, y3, y4, y5⟩ := w2 p p0 p1
    have f0 := z2 0 (by omega) (by omega)
    rw [Int.add_zero] at f0
    rw [z1, f0, z2 1 (by omega) (by omega), z2 2 (by omega) (by omega)]
    refine ⟨y1, y2, y3, y4, fun k k0 k1 => ?_⟩
    rw [z3 k k0 k1, a2]
    obtain ⟨x1, x2⟩ := y5 k k0 k1
    have := a4 _ x1.1 x1.2
    rw [this.1, this.2]
    exact ⟨x1, x2⟩
  · rw [a2] at l1
    obtain ⟨z1, z2⟩ := a4 l l0 l1
    obtain ⟨y1, y2, y3, _⟩ := w3 l l0 l1
    rw [z1, z2, a1, a5 l l0 (by omega)]
    exact ⟨y1, y2, y3, by decide⟩
  · rw [a2] at l1
    obtain ⟨z1, z2⟩ := a4 l l0 l1
    obtain ⟨y1, y2, y3, ⟨k1, h1, h1'⟩, ⟨k2, h2, h2'⟩⟩ := w3 l l0 l1
    rw [z1, z2]
    obtain ⟨u1, _, u3⟩ := a3 _ y1.1 y1.2
    obtain ⟨v1, _, v3⟩ := a3 _ y2.1 y2.2
    exact ⟨⟨k1, by rw [u1]; exact h1, by rw [u3 k1 h1.1 h1.2]; exact h1'⟩, ⟨k2, by rw [v1]; exact h2, by rw [v3 k2 h2.1 h2.2]; exact h2'⟩⟩
theorem pX6_taken (hs : tS μ) (hi : inT μ s) (hw : wfT s) : cI wX6_taken mX6_taken d [(2, 65)] μ (fun r m => r = n_p s ∧ isT m s) := by
  obtain ⟨⟨i22, i23⟩, i2, i3, i26, i27, i29, i60, i61⟩ := hi
  have wr : ∀ {m : tm_M} {a j x : Int}, tFr wX6_taken μ m → (a = 70 ∨ a = 72 ∨ a = 74 ∨ a = 76 ∨ a = 77 ∨ a = 80) → tFr wX6_taken μ (tm_w m a j x) := by
    intro m a j x h ha
    rcases ha with rfl | rfl | rfl | rfl | rfl | rfl
    · exact h.w (tWs_in _ rfl) (tS_w h.S sf_70 _ _)
    · exact h.w (tWs_in _ rfl) (tS_w h.S sf_72 _ _)
    · exact h.w (tWs_in _ rfl) (tS_w h.S sf_74 _ _)
    · exact h.w (tWs_in _ rfl) (tS_w h.S sf_76 _ _)
    · exact h.w (tWs_in _ rfl) (tS_w h.S sf_77 _ _)
    · exact h.w (tWs_in _ rfl) (tS_w h.S sf_80 _ _)
  have sc : ∀ m : tm_M, Prop := fun m => tm_v m 65 20 = n_p s
  have l125 : ∀ (q : Nat) (k : Int) (m : tm_M), 0 ≤ k → k + q = 12 → tFr wX6_taken μ m → (tm_v m 65 20 = n_p s ∧ tm_v m 65 21 = n_l s ∧ tm_v m 65 24 = n_s s ∧ tm_v m 65 25 = n_h s ∧ tm_v m 65 28 = n_c s ∧ tm_v m 65 30 = 0) → (∀ j, 0 ≤ j → j < 24 → tm_v m 70 j = tm_v μ 71 j) → (∀ j, 0 ≤ j → j < 8 → tm_v m 72 j = tm_v μ 73 j) → (∀ j, 0 ≤ j → j < 32 → tm_v m 74 j = tm_v μ 75 j) → (∀ j, 0 ≤ j → j < k → tm_v m 76 j = tm_v μ 78 j ∧ tm_v m 77 j = tm_v μ 79 j ∧ tm_v m 80 j = 0) → hI wX6_taken μ mX6_taken d (fun r m => r = n_p s ∧ isT m s) 125 [(0, 2, 65), (1, 0, k)] [] m := by
    intro q
    induction q with
    | zero =>
      intro k m k0 kq hm hsc h70 h72 h74 hk
      refine uX6_taken_125 hm ⟨fun _ => ⟨hsc.1, ⟨hsc.1, hsc.2.1⟩, fun p p0 p1 => ?_, fun l l0 l1 => ?_, fun l l0 l1 => (hk l l0 (by omega)).2.2, hsc.2.2.1, hsc.2.2.2.1, hsc.2.2.2.2.1, hsc.2.2.2.2.2⟩, fun c => by omega⟩
      · obtain ⟨z1, z2, z3, z4⟩ := i2 p p0 p1
        have hp8 := hw.1.1
        have hd4 := (hw.2.1 p p0 p1).1
        exact ⟨by rw [h72 p p0 (by omega)]; exact z2, fun j j0 j1 => by rw [h70 _ (by omega) (by omega)]; exact z3 j j0 j1, fun k k0 k1 => by rw [h74 _ (by omega) (by omega)]; exact z4 k k0 k1⟩
      · have hl := hw.1.2
        have := hk l l0 (by omega)
        have := i3 l l0 l1
        constructor <;> omega
    | succ q ih =>
      intro k m k0 kq hm hsc h70 h72 h74 hk
      refine uX6_taken_125 hm ⟨fun c => by omega, fun _ => ⟨by omega, fun m1 e1 m2 e2 m3 e3 => ?_⟩⟩
      rw [w32_id (x := k + 1) (by omega) (by omega)]
      have g1 : tFr wX6_taken μ m1 := by rw [e1]; exact wr hm (by omega)
      have g2 : tFr wX6_taken μ m2 := by rw [e2]; exact wr g1 (by omega)
      have g3 : tFr wX6_taken μ m3 := by rw [e3]; exact wr g2 (by omega)
      have vo : ∀ a j, a ≠ 76 → a ≠ 77 → a ≠ 80 → tm_v m3 a j = tm_v m a j := fun a j h1 h2 h3 => by rw [e3, e2, e1]; simp [tm_vw, h1, h2, h3]
      refine ih (k + 1) m3 (by omega) (by omega) g3 ?_ (fun j a b => by rw [vo _ _ (by decide) (by decide) (by decide)]; exact h70 j a b) (fun j a b => by rw [vo _ _ (by decide) (by decide) (by decide)]; exact h72 j a b) (fun j a b => by rw [vo _ _ (by decide) (by decide) (by decide)]; exact h74 j a b) (fun j a b => ?_)
      · simp only [vo 65 _ (by decide) (by decide) (by decide)]; exact hsc
      · by_cases e : j = k
        · rw [e]
          exact ⟨by rw [e3, e2, e1]; simp [tm_vw], by rw [e3, e2]; simp [tm_vw], by rw [e3]; simp [tm_vw]⟩
        · obtain ⟨y1, y2, y3⟩ := hk j a (by omega)
          exact ⟨by rw [e3, e2, e1]; simp [tm_vw, e]; exact y1, by rw [e3, e2, e1]; simp [tm_vw, e]; exact y2, by rw [e3, e2, e1]; simp [tm_vw, e]; exact y3⟩
  have l99 : ∀ (q : Nat) (k : Int) (m : tm_M), 0 ≤ k → k + q = 32 → tFr wX6_taken μ m → (tm_v m 65 20 = n_p s ∧ tm_v m 65 21 = n_l s ∧ tm_v m 65 24 = n_s s ∧ tm_v m 65 25 = n_h s ∧ tm_v m 65 28 = n_c s ∧ tm_v m 65 30 = 0) → (∀ j, 0 ≤ j → j < 24 → tm_v m 70 j = tm_v μ 71 j) → (∀ j, 0 ≤ j → j < 8 → tm_v m 72 j = tm_v μ 73 j) → (∀ j, 0 ≤ j → j < k → tm_v m 74 j = tm_v μ 75 j) → hI wX6_taken μ mX6_taken d (fun r m => r = n_p s ∧ isT m s) 99 [(0, 2, 65), (1, 0, k)] [] m := by
    intro q
    induction q with
    | zero =>
      intro k m k0 kq hm hsc h70 h72 h74
      exact uX6_taken_99 hm ⟨fun _ => l125 12 0 m (by omega) (by omega) hm hsc h70 h72 (fun j a b => h74 j a (by omega)) (fun j a b => by omega), fun c => by omega⟩
    | succ q ih =>
      intro k m k0 kq hm hsc h70 h72 h74
      refine uX6_taken_99 hm ⟨fun c => by omega, fun _ => ⟨by omega, fun m1 e1 => ?_⟩⟩
      rw [w32_id (x := k + 1) (by omega) (by omega)]
      have vo : ∀ a j, a ≠ 74 → tm_v m1 a j = tm_v m a j := fun a j h1 => by rw [e1]; simp [tm_vw, h1]
      refine ih (k + 1) m1 (by omega) (by omega) (by rw [e1]; exact wr hm (by omega)) ?_ (fun j a b => by rw [vo _ _ (by decide)]; exact h70 j a b) (fun j a b => by rw [vo _ _ (by decide)]; exact h72 j a b) (fun j a b => ?_)
      · simp only [vo 65 _ (by decide)]; exact hsc
      · rw [e1, tm_vw]
        by_cases e : j = k
        · rw [if_pos ⟨rfl, e⟩, e]
        · rw [if_neg (fun q => e q.2)]; exact h74 j a (by omega)
  have l73 : ∀ (q : Nat) (k : Int) (m : tm_M), 0 ≤ k → k + q = 8 → tFr wX6_taken μ m → (tm_v m 65 20 = n_p s ∧ tm_v m 65 21 = n_l s ∧ tm_v m 65 24 = n_s s ∧ tm_v m 65 25 = n_h s ∧ tm_v m 65 28 = n_c s ∧ tm_v m 65 30 = 0) → (∀ j, 0 ≤ j → j < 24 → tm_v m 70 j = tm_v μ 71 j) → (∀ j, 0 ≤ j → j < k → tm_v m 72 j = tm_v μ 73 j) → hI wX6_taken μ mX6_taken d (fun r m => r = n_p s ∧ isT m s) 73 [(0, 2, 65), (1, 0, k)] [] m := by
    intro q
    induction q with
    | zero =>
      intro k m k0 kq hm hsc h70 h72
      exact uX6_taken_73 hm ⟨fun _ => l99 32 0 m (by omega) (by omega) hm hsc h70 (fun j a b => h72 j a (by omega)) (fun j a b => by omega), fun c => by omega⟩
    | succ q ih =>
      intro k m k0 kq hm hsc h70 h72
      refine uX6_taken_73 hm ⟨fun c => by omega, fun _ => ⟨by omega, fun m1 e1 => ?_⟩⟩
      rw [w32_id (x := k + 1) (by omega) (by omega)]
      have vo : ∀ a j, a ≠ 72 → tm_v m1 a j = tm_v m a j := fun a j h1 => by rw [e1]; simp [tm_vw, h1]
      refine ih (k + 1) m1 (by omega) (by omega) (by rw [e1]; exact wr hm (by omega)) ?_ (fun j a b => by rw [vo _ _ (by decide)]; exact h70 j a b) (fun j a b => ?_)
      · simp only [vo 65 _ (by decide)]; exact hsc
      · rw [e1, tm_vw]
        by_cases e : j = k
        · rw [if_pos ⟨rfl, e⟩, e]
        · rw [if_neg (fun q => e q.2)]; exact h72 j a (by omega)
  have l47 : ∀ (q : Nat) (k : Int) (m : tm_M), 0 ≤ k → k + q = 24 → tFr wX6_taken μ m → (tm_v m 65 20 = n_p s ∧ tm_v m 65 21 = n_l s ∧ tm_v m 65 24 = n_s s ∧ tm_v m 65 25 = n_h s ∧ tm_v m 65 28 = n_c s ∧ tm_v m 65 30 = 0) → (∀ j, 0 ≤ j → j < k → tm_v m 70 j = tm_v μ 71 j) → hI wX6_taken μ mX6_taken d (fun r m => r = n_p s ∧ isT m s) 47 [(0, 2, 65), (1, 0, k)] [] m := by
    intro q
    induction q with
    | zero =>
      intro k m k0 kq hm hsc h70
      exact uX6_taken_47 hm ⟨fun _ => l73 8 0 m (by omega) (by omega) hm hsc (fun j a b => h70 j a (by omega)) (fun j a b => by omega), fun c => by omega⟩
    | succ q ih =>
      intro k m k0 kq hm hsc h70
      refine uX6_taken_47 hm ⟨fun c => by omega, fun _ => ⟨by omega, fun m1 e1 => ?_⟩⟩
      rw [w32_id (x := k + 1) (by omega) (by omega)]
      have vo : ∀ a j, a ≠ 70 → tm_v m1 a j = tm_v m a j := fun a j h1 => by rw [e1]; simp [tm_vw, h1]
      refine ih (k + 1) m1 (by omega) (by omega) (by rw [e1]; exact wr hm (by omega)) ?_ (fun j a b => ?_)
      · simp only [vo 65 _ (by decide)]; exact hsc
      · rw [e1, tm_vw]
        by_cases e : j = k
        · rw [if_pos ⟨rfl, e⟩, e]
        · rw [if_neg (fun q => e q.2)]; exact h70 j a (by omega)
  refine t_of (uX6_taken_0 (tFr.rf hs) ?_)
  rw [i22, i23, i29, i26, i27]
  intro m1 e1 m2 e2
  refine ⟨hw.2.2.2.2.2, fun m3 e3 m4 e4 m5 e5 m6 e6 => ?_⟩
  have g1 : tFr wX6_taken μ m1 := by rw [e1]; exact (tFr.rf hs).w (tWs_inF rfl) (tS_wj hs _ (by decide))
  have g2 : tFr wX6_taken μ m2 := by rw [e2]; exact g1.w (tWs_inF rfl) (tS_wj g1.S _ (by decide))
  have g3 : tFr wX6_taken μ m3 := by rw [e3]; exact g2.w (tWs_inF rfl) (tS_wj g2.S _ (by decide))
  have g4 : tFr wX6_taken μ m4 := by rw [e4]; exact g3.w (tWs_inF rfl) (tS_wj g3.S _ (by decide))
  have g5 : tFr wX6_taken μ m5 := by rw [e5]; exact g4.w (tWs_inF rfl) (tS_wj g4.S _ (by decide))
  have g6 : tFr wX6_taken μ m6 := by rw [e6]; exact g5.w (tWs_inF rfl) (tS_wj g5.S _ (by decide))
  refine l47 24 0 m6 (by omega) (by omega) g6 ⟨?_, ?_, ?_, ?_, ?_, ?_⟩ (fun j a b => by omega)
  · rw [e6, e5, e4, e3, e2, e1]; simp [tm_vw]
  · rw [e6, e5, e4, e3, e2]; simp [tm_vw]
  · rw [e6, e5, e4]; simp [tm_vw]
  · rw [e6, e5]; simp [tm_vw]
  · rw [e6, e5, e4, e3]; simp [tm_vw]
  · rw [e6]; simp [tm_vw]
/-- the town's cells are as they were -/
def smT (μ m : tm_M) : Prop := (∀ a, (a = 70 ∨ a = 72 ∨ a = 74 ∨ a = 76 ∨ a = 77 ∨ a = 80) → tm_v m a = tm_v μ a) ∧ ∀ j, (j = 20 ∨ j = 21 ∨ j = 24 ∨ j = 25 ∨ j = 28 ∨ j = 30) → tm_v m 65 j = tm_v μ 65 j
def o_town (μ : tm_M) (k r : Int) (m : tm_M) : Prop :=
  if k < 0 ∨ tm_v μ 65 8 < k then r = -1 ∧ tm_v m 65 0 = 5 ∧ tm_v m 65 8 = tm_v μ 65 8 ∧ tm_v m 65 10 = tm_v μ 65 10 ∧ tm_v m 65 11 = tm_v μ 65 11 ∧ smT μ m
  else tm_v m 65 8 = 0 ∧ match p_town (y_tx μ) k with
    | .error e => r = -1 ∧ tm_v m 65 0 = 10 ∧ tm_v m 65 10 = e.1 ∧ 0 < e.1 ∧ tm_v m 65 11 = e.2 ∧ smT μ m
    | .ok s => r = n_p s ∧ tm_v m 65 0 = 0 ∧ tm_v m 65 10 = 0 ∧ tm_v m 65 11 = -1 ∧ wfT s ∧ isT m s
theorem pX6_town {k : Int} (hd : 6 ≤ d) (hs : tS μ) (hB : y_B μ) (h8 : tm_v μ 65 8 ≤ 500) : cI wX6_town mX6_town d [(2, 65), (0, k)] μ (o_town μ k) := by
  refine t_of (uX6_town_0 (by omega) (tFr.rf hs) ?_)
  rintro m1 e1 m2 e2
  have f2 : tFr wX6_town μ m2 := by rw [e2, e1]; exact fr_st (tFr.rf hs) (tWs_inF rfl) (tWs_inF rfl) 0
  have e28 : tm_v m2 65 8 = tm_v μ 65 8 := by rw [e2, e1]; simp [tm_vw]
  have bad : ∀ m', m' = tm_w m2 65 0 5 → (k < 0 ∨ tm_v μ 65 8 < k) → o_town μ k (-1) m' := by
    intro m' e' h
    unfold o_town
    rw [if_pos h]
    refine ⟨rfl, ?_, ?_, ?_, ?_, fun a ha => ?_, fun j hj => ?_⟩
    · rw [e']; simp [tm_vw]
    · rw [e', e2, e1]; simp [tm_vw]
    · rw [e', e2, e1]; simp [tm_vw]
    · rw [e', e2, e1]; simp [tm_vw]
    · funext i
      rw [e', e2, e1]
      rcases ha with rfl | rfl | rfl | rfl | rfl | rfl <;> simp [tm_vw]
    · rw [e', e2, e1]
      rcases hj with rfl | rfl | rfl | rfl | rfl | rfl <;> simp [tm_vw]
  rw [e28]
  refine ⟨fun c m' e' => bad m' e' (Or.inl c), fun c => ⟨fun c2 => ?_, fun c2 m' e' => bad m' e' (Or.inr c2)⟩⟩
  have hnb : ¬ (k < 0 ∨ tm_v μ 65 8 < k) := by omega
  -- the town stays while a text is read
  have stays : ∀ m, tFr (tWs [71, 73, 75, 78, 79, 81] [(65, 0), (65, 1), (65, 8), (65, 9), (65, 10), (65, 11), (65, 12), (65, 13), (65, 14), (65, 15), (65, 16), (65, 17), (65, 18), (65, 19), (65, 22), (65, 23), (65, 26), (65, 27), (65, 29), (65, 60), (65, 61)]) μ m → smT μ m := by
    intro m hm
    refine ⟨fun a ha => ?_, fun j hj => ?_⟩
    · funext i
      rcases ha with rfl | rfl | rfl | rfl | rfl | rfl
      all_goals exact hm.v (tWs_no _ rfl)
    · rcases hj with rfl | rfl | rfl | rfl | rfl | rfl
      all_goals exact hm.v (tWs_noF rfl)
  generalize eW : tWs [71, 73, 75, 78, 79, 81] [(65, 0), (65, 1), (65, 8), (65, 9), (65, 10), (65, 11), (65, 12), (65, 13), (65, 14), (65, 15), (65, 16), (65, 17), (65, 18), (65, 19), (65, 22), (65, 23), (65, 26), (65, 27), (65, 29), (65, 60), (65, 61)] = W at stays
  have sub : ∀ a j, W a j → wX6_town a j := by rw [← eW]; exact tWs_sub rfl
  have nt : tpW W ∨ True := Or.inr trivial
  -- the end of the reading
  have fault : ∀ (m : tm_M) (e : Int × Int), tFr W μ m → bdP m e → tm_v m 65 8 = 0 → p_town (y_tx μ) k = .error e → hI wX6_town μ mX6_town d (o_town μ k) 87 [(0, 2, 65)] [] m := by
    intro m e hm hb h80 he
    have hm' := hm.to sub
    have hpos : 0 < tm_v m 65 12 := by rw [hb.1]; exact hb.2.1
    refine uX6_town_87 (by omega) hm' ⟨fun _ m3 e3 => ?_, fun c => by omega⟩
    have a12 : tm_v m3 65 12 = tm_v m 65 12 := by rw [e3, tm_vw, if_neg (by omega)]
    have a13 : tm_v m3 65 13 = tm_v m 65 13 := by rw [e3, tm_vw, if_neg (by omega)]
    rw [a12]
    refine ⟨fun _ m4 e4 => ?_, fun c => by omega⟩
    have b12 : tm_v m4 65 12 = tm_v m 65 12 := by rw [e4, tm_vw, if_neg (by omega)]; exact a12
    rw [b12]
    refine ⟨fun c => by omega, fun _ m5 e5 => ?_⟩
    unfold o_town
    rw [if_neg hnb, he]
    have g3 : tFr W μ m3 := by rw [e3]; exact hm.w (by rw [← eW]; exact tWs_inF rfl) (tS_wj hm.S _ (by decide))
    have g4 : tFr W μ m4 := by rw [e4]; exact g3.w (by rw [← eW]; exact tWs_inF rfl) (tS_wj g3.S _ (by decide))
    have g5 : tFr W μ m5 := by rw [e5]; exact g4.w (by rw [← eW]; exact tWs_inF rfl) (tS_wj g4.S _ (by decide))
    refine ⟨?_, rfl, ?_, ?_, hb.2.1, ?_, stays m5 g5⟩
    · rw [e5, e4, e3]; simp [tm_vw]; exact h80
    · rw [e5]; simp [tm_vw]
    · rw [e5, e4, e3]; simp [tm_vw]; exact hb.1
    · rw [e5, e4]; simp [tm_vw]; rw [a13]; exact hb.2.2
  have good : ∀ (m : tm_M) (s : TN), tFr W μ m → tm_v m 65 12 = 0 → tm_v m 65 14 = 0 → tm_v m 65 8 = 0 → tm_v m 65 0 = 0 → inT m s → wfT s → p_town (y_tx μ) k = .ok s → hI wX6_town μ mX6_town d (o_town μ k) 87 [(0, 2, 65)] [] m := by
    intro m s hm h12 h14 h80 h00 hin hw he
    have hm' := hm.to sub
    refine uX6_town_87 (by omega) hm' ⟨fun c => absurd h12 c, fun _ => ⟨fun _ m3 e3 => ?_, fun c => absurd h14 c⟩⟩
    have a12 : tm_v m3 65 12 = 0 := by rw [e3, tm_vw, if_neg (by omega)]; exact h12
    rw [a12]
    refine ⟨fun c => absurd rfl c, fun _ m4 e4 => ?_⟩
    have b12 : tm_v m4 65 12 = 0 := by rw [e4, tm_vw, if_neg (by omega)]; exact a12
    rw [b12]
    refine ⟨fun _ => ?_, fun c => absurd c (by decide)⟩
    have g3 : tFr wX6_town μ m3 := by rw [e3]; exact hm'.w (tWs_inF rfl) (tS_wj hm'.S _ (by decide))
    have g4 : tFr wX6_town μ m4 := by rw [e4]; exact g3.w (tWs_inF rfl) (tS_wj g3.S _ (by decide))
    have va : ∀ a j, a ≠ 65 → tm_v m4 a j = tm_v m a j := fun a j ha => by rw [e4, e3]; simp [tm_vw, ha]
    have vj : ∀ j, j ≠ 10 → j ≠ 11 → tm_v m4 65 j = tm_v m 65 j := fun j h1 h2 => by rw [e4, e3]; simp [tm_vw, h1, h2]
    have in4 : inT m4 s := by
      unfold inT at hin ⊢
      simp only [va 81 _ (by decide), va 73 _ (by decide), va 71 _ (by decide), va 75 _ (by decide), va 78 _ (by decide), va 79 _ (by decide), vj 22 (by decide) (by decide), vj 23 (by decide) (by decide), vj 26 (by decide) (by decide), vj 27 (by decide) (by decide), vj 29 (by decide) (by decide), vj 60 (by decide) (by decide), vj 61 (by decide) (by decide)]
      exact hin
    refine tC.I (pX6_taken g4.S in4 hw) (fun r m5 f5 hr => ?_)
    unfold o_town
    rw [if_neg hnb, he]
    refine ⟨?_, hr.1, ?_, ?_, ?_, hw, hr.2⟩
    · rw [f5.v (tWs_noF rfl), vj _ (by decide) (by decide)]; exact h80
    · rw [f5.v (tWs_noF rfl), vj _ (by decide) (by decide)]; exact h00
    · rw [f5.v (tWs_noF rfl), e4, e3]; simp [tm_vw]; exact h12
    · rw [f5.v (tWs_noF rfl), e4]; simp [tm_vw]
  have loop : ∀ (q : Nat) (s : TN) (t : TK) (m : tm_M), (kso t ≠ 0 → k < ken t + q) → tFr W μ m → okP (y_tx μ) k m t → tm_v m 65 8 = 0 → tm_v m 65 0 = 0 → inT m s → wfT s → p_town (y_tx μ) k = p_all (y_tx μ) k q s t → hI wX6_town μ mX6_town d (o_town μ k) 87 [(0, 2, 65)] [] m := by
    intro q
    induction q with
    | zero =>
      intro s t m hq hm hok h80 h00 hin hw hx
      have h14 : tm_v m 65 14 = 0 := by
        rw [hok.2.2.1.1]
        by_cases c : kso t = 0
        · exact c
        · have := hq c; have := hok.2.2.2.2; omega
      exact good m s hm hok.2.1 h14 h80 h00 hin hw (by rw [hx, p_all])
    | succ q ih =>
      intro s t m hq hm hok h80 h00 hin hw hx
      have hm' := hm.to sub
      have hT := hok.2.2.1
      by_cases c0 : kso t = 0
      · exact good m s hm hok.2.1 (by rw [hT.1]; exact c0) h80 h00 hin hw (by rw [hx, p_all, if_pos c0])
      · rw [p_all, if_neg c0] at hx
        have hq' := hq c0
        have nx : ∀ (x : EX (TN × TK)) (m1 : tm_M), p_pt (y_tx μ) k s t = x → exS (y_tx μ) k x m1 → tFr W μ m1 → tm_v m1 65 8 = 0 → tm_v m1 65 0 = 0 → hI wX6_town μ mX6_town d (o_town μ k) 87 [(0, 2, 65)] [] m1 := by
          intro x m1 ex hx1 g1 g8 g0
          rw [ex] at hx
          match x, hx, hx1, ex with
          | .error e, hx, hx1, ex => exact fault m1 e g1 hx1 g8 hx
          | .ok (s', t'), hx, hx1, ex =>
            have hk := p_pt_ok ex hok.2.2.2.1 hok.2.2.2.2 hw
            refine ih s' t' m1 (fun c => ?_) g1 hx1.1 g8 g0 hx1.2 hk.1 hx
            have := hk.2.1 c
            omega
        refine uX6_town_87 (by omega) hm' ⟨fun c => absurd hok.2.1 c, fun _ => ⟨fun c => absurd (by rw [← hT.1]; exact c) c0, fun _ => ⟨fun cP => ⟨fun cL => ?_, fun cL => ?_⟩, fun cP => ?_⟩⟩⟩
        · refine tC.V (pX6_readRest (by omega) hm.S hok hin) (fun m1 f1 h1 => ?_)
          refine nx _ m1 ?_ h1 (hm.tr f1 (by rw [← eW]; exact tWs_sub rfl)) (by rw [f1.v (tWs_noF rfl)]; exact h80) (by rw [f1.v (tWs_noF rfl)]; exact h00)
          unfold p_pt
          rw [if_neg (fun q => cP ((isW_T hT).mpr q)), if_neg (fun q => cL ((isW_T hT).mpr q))]
        · refine tC.V (pX6_readLane (by omega) hm.S hok hin hw) (fun m1 f1 h1 => ?_)
          refine nx _ m1 ?_ h1 (hm.tr f1 (by rw [← eW]; exact tWs_sub rfl)) (by rw [f1.v (tWs_noF rfl)]; exact h80) (by rw [f1.v (tWs_noF rfl)]; exact h00)
          unfold p_pt
          rw [if_neg (fun q => cP ((isW_T hT).mpr q)), if_pos ((isW_T hT).mp cL)]
        · refine tC.V (pX6_readPlace (by omega) hm.S hok hin hw) (fun m1 f1 h1 => ?_)
          refine nx _ m1 ?_ h1 (hm.tr f1 (by rw [← eW]; exact tWs_sub rfl)) (by rw [f1.v (tWs_noF rfl)]; exact h80) (by rw [f1.v (tWs_noF rfl)]; exact h00)
          unfold p_pt
          rw [if_pos ((isW_T hT).mp cP)]
  -- the start
  intro m3 e3 m4 e4 m5 e5 m6 e6 m7 e7 m8 e8 m9 e9 m10 e10 m11 e11 m12 e12 m13 e13
  have F : ∀ {m m' : tm_M} {j x : Int}, tFr W μ m → m' = tm_w m 65 j x → (j = 0 ∨ j = 1 ∨ j = 8 ∨ j = 9 ∨ j = 12 ∨ j = 16 ∨ j = 22 ∨ j = 23 ∨ j = 26 ∨ j = 27 ∨ j = 29 ∨ j = 60 ∨ j = 61) → tFr W μ m' := by
    intro m m' j x h e hj
    rw [e]
    rcases hj with rfl | rfl | rfl | rfl | rfl | rfl | rfl | rfl | rfl | rfl | rfl | rfl | rfl
    all_goals exact h.w (by rw [← eW]; exact tWs_inF rfl) (tS_wj h.S _ (by decide))
  have g1 : tFr W μ m1 := F (tFr.rf hs) e1 (by omega)
  have g2 : tFr W μ m2 := F g1 e2 (by omega)
  have g3 : tFr W μ m3 := F g2 e3 (by omega)
  have g4 : tFr W μ m4 := F g3 e4 (by omega)
  have g5 : tFr W μ m5 := F g4 e5 (by omega)
  have g6 : tFr W μ m6 := F g5 e6 (by omega)
  have g7 : tFr W μ m7 := F g6 e7 (by omega)
  have g8 : tFr W μ m8 := F g7 e8 (by omega)
  have g9 : tFr W μ m9 := F g8 e9 (by omega)
  have g10 : tFr W μ m10 := F g9 e10 (by omega)
  have g11 : tFr W μ m11 := F g10 e11 (by omega)
  have g12 : tFr W μ m12 := F g11 e12 (by omega)
  have g13 : tFr W μ m13 := F g12 e13 (by omega)
  have v69 : ∀ j, tm_v m13 69 j = tm_v μ 69 j := fun j => by rw [e13, e12, e11, e10, e9, e8, e7, e6, e5, e4, e3, e2, e1]; simp [tm_vw]
  have v9 : tm_v m13 65 9 = k := by rw [e13, e12, e11, e10, e9, e8, e7, e6, e5, e4, e3]; simp [tm_vw]
  have v8 : tm_v m13 65 8 = 0 := by rw [e13, e12, e11, e10, e9, e8, e7, e6, e5, e4]; simp [tm_vw]
  have v16 : tm_v m13 65 16 = 0 := by rw [e13, e12, e11, e10, e9, e8, e7, e6, e5]; simp [tm_vw]
  have v12 : tm_v m13 65 12 = 0 := by rw [e13, e12, e11, e10, e9, e8, e7, e6]; simp [tm_vw]
  have v0 : tm_v m13 65 0 = 0 := by rw [e13, e12, e11, e10, e9, e8, e7, e6, e5, e4, e3, e2]; simp [tm_vw]
  have v22 : tm_v m13 65 22 = 0 := by rw [e13, e12, e11, e10, e9, e8, e7]; simp [tm_vw]
  have v23 : tm_v m13 65 23 = 0 := by rw [e13, e12, e11, e10, e9, e8]; simp [tm_vw]
  have v29 : tm_v m13 65 29 = 0 := by rw [e13, e12, e11, e10, e9]; simp [tm_vw]
  have v60 : tm_v m13 65 60 = 0 := by rw [e13, e12, e11, e10]; simp [tm_vw]
  have v61 : tm_v m13 65 61 = 0 := by rw [e13, e12, e11]; simp [tm_vw]
  have v26 : tm_v m13 65 26 = 1 := by rw [e13, e12]; simp [tm_vw]
  have v27 : tm_v m13 65 27 = 0 := by rw [e13]; simp [tm_vw]
  have etx : y_tx m13 = y_tx μ := by funext j; unfold y_tx; rw [v69]
  have hX : y_X m13 := ⟨fun j => by rw [v69]; exact hB j, by rw [v9]; omega, by rw [v9]; omega⟩
  refine tC.V (pX6_next (by omega) g13.S hX (by rw [v16, v9]; omega)) (fun m14 f14 h14 => ?_)
  rw [etx, v9, v16] at h14
  have g14 : tFr W μ m14 := g13.tr f14 (by rw [← eW]; exact tWs_sub rfl)
  have hk := tok_in (tx := y_tx μ) (n := k) (b := 0) (by omega)
  have in13 : inT m13 tn0 := ⟨⟨v22, v23⟩, fun p p0 p1 => by have : p < 0 := p1; omega, fun l l0 l1 => by have : l < 0 := l1; omega, v26, v27, v29, v60, v61⟩
  have tp13 : tp (y_tx μ) k m13 := ⟨hX, v9, etx⟩
  refine loop (k + 1).toNat tn0 (tok (y_tx μ) k 0) m14 (fun _ => by omega) g14 ⟨tp_F f14 tpW_next tp13, by rw [f14.v (tWs_noF rfl)]; exact v12, h14, by omega, by omega⟩ (by rw [f14.v (tWs_noF rfl)]; exact v8) (by rw [f14.v (tWs_noF rfl)]; exact v0) (inT_F f14 inW_next in13) wf_tn0 rfl
end C7I
