/-! WALKS of constructors, over any memory (gen/ur.py rinits), and their contracts -/
theorem zJ1_init_0 {d mc ms nc ns : Nat} {μ : tm_M} {Q : tQ} {v0 v1 v2 v3 v4 : Int} 
    (h : (1 ≤ v0) ∧ (rcl mJ0_init_2 [(2, v0), (2, v1), (2, v2), (0, v3), (0, v4)] μ d mc ms nc ns (fun o2 μ2 nc2 ns2 => rkV o2 (((nc2 ≤ mc ∧ ns2 ≤ ms) ∧ (Q (.inl none) μ2))) (fun a => tT mJ1_init d mc ms (tq Q mc ms) 6 [(0, 2, v0), (1, 2, v1), (2, 2, v2), (3, 0, v3), (4, 0, v4)] a μ2 nc2 ns2)))) :
    tH mJ1_init d mc ms (tq Q mc ms) 0 [(0, 2, v0), (1, 2, v1), (2, 2, v2), (3, 0, v3), (4, 0, v4)] [] μ nc ns := by
  refine g_aload_n (q := 0) dJ1_init_0 rfl rfl ?_
  refine g_aload_n (q := 1) dJ1_init_1 rfl rfl ?_
  refine g_aload_n (q := 2) dJ1_init_2 rfl rfl ?_
  refine g_iload_n (q := 3) dJ1_init_3 rfl rfl ?_
  refine g_iload (q := 4) dJ1_init_4 rfl ?_
  obtain ⟨c1, h⟩ := h
  obtain ⟨_, _, _, k1, k2, k3, h⟩ := h
  refine g_callI (as := [(2, v1), (2, v2), (0, v3), (0, v4)]) (S := []) dJ1_init_6 kJ0_init_2 rfl rfl rfl q216 q217 rfl rfl k1 c1 k2 k3 (Nat.le_of_ble_eq_true rfl) (h.mono fun o2 μ2 q => rk_goV q (fun h => ?_) (fun a h => h))
  obtain ⟨c3, h⟩ := h
  exact g_vret dJ1_init_9 rfl c3.1 c3.2 h
theorem zJ2_init_0 {d mc ms nc ns : Nat} {μ : tm_M} {Q : tQ} {v0 v1 v2 v3 v4 : Int} 
    (h : (1 ≤ v0) ∧ (rcl mJ1_init [(2, v0), (2, v1), (2, v2), (0, v3), (0, v4)] μ d mc ms nc ns (fun o2 μ2 nc2 ns2 => rkV o2 (((nc2 ≤ mc ∧ ns2 ≤ ms) ∧ (Q (.inl none) μ2))) (fun a => tT mJ2_init d mc ms (tq Q mc ms) 6 [(0, 2, v0), (1, 2, v1), (2, 2, v2), (3, 0, v3), (4, 0, v4)] a μ2 nc2 ns2)))) :
    tH mJ2_init d mc ms (tq Q mc ms) 0 [(0, 2, v0), (1, 2, v1), (2, 2, v2), (3, 0, v3), (4, 0, v4)] [] μ nc ns := by
  refine g_aload_n (q := 0) dJ2_init_0 rfl rfl ?_
  refine g_aload_n (q := 1) dJ2_init_1 rfl rfl ?_
  refine g_aload_n (q := 2) dJ2_init_2 rfl rfl ?_
  refine g_iload_n (q := 3) dJ2_init_3 rfl rfl ?_
  refine g_iload (q := 4) dJ2_init_4 rfl ?_
  obtain ⟨c1, h⟩ := h
  obtain ⟨_, _, _, k1, k2, k3, h⟩ := h
  refine g_callI (as := [(2, v1), (2, v2), (0, v3), (0, v4)]) (S := []) dJ2_init_6 kJ1_init rfl rfl rfl q213 q214 rfl rfl k1 c1 k2 k3 (Nat.le_of_ble_eq_true rfl) (h.mono fun o2 μ2 q => rk_goV q (fun h => ?_) (fun a h => h))
  obtain ⟨c3, h⟩ := h
  exact g_vret dJ2_init_9 rfl c3.1 c3.2 h
theorem zX1_init_0 {d mc ms nc ns : Nat} {μ : tm_M} {Q : tQ} {v0 : Int} 
    (h : (1 ≤ v0) ∧ (rcl mJ2_init [(2, v0), (2, 0), (2, 0), (0, 0), (0, 0)] μ d mc ms nc ns (fun o2 μ2 nc2 ns2 => rkV o2 (((nc2 ≤ mc ∧ ns2 ≤ ms) ∧ (Q (.inl none) μ2))) (fun a => tT mX1_init d mc ms (tq Q mc ms) 5 [(0, 2, v0)] a μ2 nc2 ns2)))) :
    tH mX1_init d mc ms (tq Q mc ms) 0 [(0, 2, v0)] [] μ nc ns := by
  refine g_aload_n (q := 0) dX1_init_0 rfl rfl ?_
  refine g_anull dX1_init_1 ?_
  refine g_anull dX1_init_2 ?_
  refine g_iconst dX1_init_3 (by decide) ?_
  refine g_iconst dX1_init_4 (by decide) ?_
  obtain ⟨c1, h⟩ := h
  obtain ⟨_, _, _, k1, k2, k3, h⟩ := h
  refine g_callI (as := [(2, 0), (2, 0), (0, 0), (0, 0)]) (S := []) dX1_init_5 kJ2_init rfl rfl rfl q210 q211 rfl rfl k1 c1 k2 k3 (Nat.le_of_ble_eq_true rfl) (h.mono fun o2 μ2 q => rk_goV q (fun h => ?_) (fun a h => h))
  obtain ⟨c3, h⟩ := h
  exact g_vret dX1_init_8 rfl c3.1 c3.2 h
theorem zX2_init_0 {d mc ms nc ns : Nat} {μ : tm_M} {Q : tQ} {v0 v1 : Int} 
    (h : (1 ≤ v0) ∧ ((nc + 1 ≤ mc ∧ ns + 500 ≤ ms) ∧ ((∀ μ3, μ3 = tm_a μ 22 500 → (1 ≤ v0 ∧ tm_k μ3 v0 = 2) ∧ ((∀ μ5, μ5 = tm_w μ3 v0 0 (tm_z μ) → (1 ≤ v0 ∧ tm_k μ5 v0 = 2) ∧ ((∀ μ7, μ7 = tm_w μ5 v0 9 v1 → ((nc + 1) ≤ mc ∧ (ns + 500) ≤ ms) ∧ (Q (.inl none) μ7))))))))) :
    tH mX2_init d mc ms (tq Q mc ms) 0 [(0, 2, v0), (1, 2, v1)] [] μ nc ns := by
  refine g_aload_n (q := 0) dX2_init_0 rfl rfl ?_
  obtain ⟨c1, h⟩ := h
  refine g_objInit dX2_init_1 q245 q148 q149 c1 (Nat.le_of_ble_eq_true rfl) ?_
  refine g_aload_n (q := 0) dX2_init_4 rfl rfl ?_
  refine g_sipush dX2_init_5 ⟨by decide, by decide, rfl⟩ ?_
  obtain ⟨c2, h⟩ := h
  refine g_newarray (k := 22) dX2_init_8 (by decide) rfl q278 (by decide) c2.1 c2.2 (p_r fun μ3 eμ3 => ?_)
  have h := h μ3 eμ3
  obtain ⟨c4, h⟩ := h
  refine g_putF dX2_init_10 fX2_9F rfl rfl c4.1 c4.2 (fun e => absurd e (by decide)) (p_r fun μ5 eμ5 => ?_)
  have h := h μ5 eμ5
  refine g_aload_n (q := 0) dX2_init_13 rfl rfl ?_
  refine g_aload_n (q := 1) dX2_init_14 rfl rfl ?_
  obtain ⟨c6, h⟩ := h
  refine g_putF dX2_init_15 fX2_15F rfl rfl c6.1 c6.2 (fun e => absurd e (by decide)) (p_r fun μ7 eμ7 => ?_)
  have h := h μ7 eμ7
  obtain ⟨c8, h⟩ := h
  exact g_vret dX2_init_18 rfl c8.1 c8.2 h
theorem zX3_init_0 {d mc ms nc ns : Nat} {μ : tm_M} {Q : tQ} {v0 : Int} 
    (h : (1 ≤ v0) ∧ ((nc ≤ mc ∧ ns ≤ ms) ∧ (Q (.inl none) μ))) :
    tH mX3_init d mc ms (tq Q mc ms) 0 [(0, 2, v0)] [] μ nc ns := by
  refine g_aload_n (q := 0) dX3_init_0 rfl rfl ?_
  obtain ⟨c1, h⟩ := h
  refine g_objInit dX3_init_1 q286 q148 q149 c1 (Nat.le_of_ble_eq_true rfl) ?_
  obtain ⟨c2, h⟩ := h
  exact g_vret dX3_init_4 rfl c2.1 c2.2 h
theorem zX4_init_0 {d mc ms nc ns : Nat} {μ : tm_M} {Q : tQ} {v0 : Int} 
    (h : (1 ≤ v0) ∧ ((nc + 1 ≤ mc ∧ ns + 8 ≤ ms) ∧ ((∀ μ3, μ3 = tm_a μ 26 8 → (1 ≤ v0 ∧ tm_k μ3 v0 = 4) ∧ ((∀ μ5, μ5 = tm_w μ3 v0 0 (tm_z μ) → ((nc + 1) + 1 ≤ mc ∧ (ns + 8) + 12 ≤ ms) ∧ ((∀ μ7, μ7 = tm_a μ5 27 12 → (1 ≤ v0 ∧ tm_k μ7 v0 = 4) ∧ ((∀ μ9, μ9 = tm_w μ7 v0 1 (tm_z μ5) → (1 ≤ v0 ∧ tm_k μ9 v0 = 4) ∧ ((∀ μ11, μ11 = tm_w μ9 v0 4 1 → (((nc + 1) + 1) + 1 ≤ mc ∧ ((ns + 8) + 12) + 8 ≤ ms) ∧ ((∀ μ13, μ13 = tm_a μ11 20 8 → (1 ≤ v0 ∧ tm_k μ13 v0 = 4) ∧ ((∀ μ15, μ15 = tm_w μ13 v0 7 (tm_z μ11) → ((((nc + 1) + 1) + 1) ≤ mc ∧ (((ns + 8) + 12) + 8) ≤ ms) ∧ (Q (.inl none) μ15))))))))))))))))) :
    tH mX4_init d mc ms (tq Q mc ms) 0 [(0, 2, v0)] [] μ nc ns := by
  refine g_aload_n (q := 0) dX4_init_0 rfl rfl ?_
  obtain ⟨c1, h⟩ := h
  refine g_objInit dX4_init_1 q312 q148 q149 c1 (Nat.le_of_ble_eq_true rfl) ?_
  refine g_aload_n (q := 0) dX4_init_4 rfl rfl ?_
  refine g_bipush dX4_init_5 ⟨by decide, by decide, rfl⟩ ?_
  obtain ⟨c2, h⟩ := h
  refine g_anew (k := 26) dX4_init_7 (by decide) rfl q313 q314 (by decide) c2.1 c2.2 (p_r fun μ3 eμ3 => ?_)
  have h := h μ3 eμ3
  obtain ⟨c4, h⟩ := h
  refine g_putF dX4_init_10 fX4_11F rfl rfl c4.1 c4.2 (fun e => absurd e (by decide)) (p_r fun μ5 eμ5 => ?_)
  have h := h μ5 eμ5
  refine g_aload_n (q := 0) dX4_init_13 rfl rfl ?_
  refine g_bipush dX4_init_14 ⟨by decide, by decide, rfl⟩ ?_
  obtain ⟨c6, h⟩ := h
  refine g_anew (k := 27) dX4_init_16 (by decide) rfl q315 q316 (by decide) c6.1 c6.2 (p_r fun μ7 eμ7 => ?_)
  have h := h μ7 eμ7
  obtain ⟨c8, h⟩ := h
  refine g_putF dX4_init_19 fX4_19F rfl rfl c8.1 c8.2 (fun e => absurd e (by decide)) (p_r fun μ9 eμ9 => ?_)
  have h := h μ9 eμ9
  refine g_aload_n (q := 0) dX4_init_22 rfl rfl ?_
  refine g_iconst dX4_init_23 (by decide) ?_
  obtain ⟨c10, h⟩ := h
  refine g_put dX4_init_24 fX4_23 rfl c10.1 c10.2 (fun e => absurd e (by decide)) (p_r fun μ11 eμ11 => ?_)
  have h := h μ11 eμ11
  refine g_aload_n (q := 0) dX4_init_27 rfl rfl ?_
  refine g_bipush dX4_init_28 ⟨by decide, by decide, rfl⟩ ?_
  obtain ⟨c12, h⟩ := h
  refine g_newarray (k := 20) dX4_init_30 (by decide) rfl q354 (by decide) c12.1 c12.2 (p_r fun μ13 eμ13 => ?_)
  have h := h μ13 eμ13
  obtain ⟨c14, h⟩ := h
  refine g_putF dX4_init_32 fX4_27F rfl rfl c14.1 c14.2 (fun e => absurd e (by decide)) (p_r fun μ15 eμ15 => ?_)
  have h := h μ15 eμ15
  obtain ⟨c16, h⟩ := h
  exact g_vret dX4_init_35 rfl c16.1 c16.2 h
theorem zX5_init_0 {d mc ms nc ns : Nat} {μ : tm_M} {Q : tQ} {v0 : Int} 
    (h : (1 ≤ v0) ∧ ((nc ≤ mc ∧ ns ≤ ms) ∧ (Q (.inl none) μ))) :
    tH mX5_init d mc ms (tq Q mc ms) 0 [(0, 2, v0)] [] μ nc ns := by
  refine g_aload_n (q := 0) dX5_init_0 rfl rfl ?_
  obtain ⟨c1, h⟩ := h
  refine g_objInit dX5_init_1 q364 q148 q149 c1 (Nat.le_of_ble_eq_true rfl) ?_
  obtain ⟨c2, h⟩ := h
  exact g_vret dX5_init_4 rfl c2.1 c2.2 h

section ZIN
variable {d : Nat} {μ : tm_M} {x w : Int}
theorem zJ1_init (hd : 1 ≤ d) (h1 : 1 ≤ x) (hk : tm_k μ x = 1) : tC mJ1_init d 0 0 [(2, x), (2, 0), (2, 0), (0, 0), (0, 0)] μ (q_m (th4 (tm_w μ x 0 x) x)) := by
  refine tC_of rfl (Nat.le_of_ble_eq_true rfl) (zJ1_init_0 ⟨h1, ?_⟩)
  refine rcl_of (d' := d - 1) (zJ0_init h1 hk) (by omega) (Nat.le_refl _) (Nat.le_refl _) (fun o m q => ?_)
  obtain ⟨rfl, rfl⟩ := q
  exact Or.inl ⟨rfl, ⟨Nat.le_refl _, Nat.le_refl _⟩, rfl, rfl⟩
theorem zJ2_init (hd : 2 ≤ d) (h1 : 1 ≤ x) (hk : tm_k μ x = 1) : tC mJ2_init d 0 0 [(2, x), (2, 0), (2, 0), (0, 0), (0, 0)] μ (q_m (th4 (tm_w μ x 0 x) x)) := by
  refine tC_of rfl (Nat.le_of_ble_eq_true rfl) (zJ2_init_0 ⟨h1, ?_⟩)
  refine rcl_of (d' := d - 1) (zJ1_init (by omega) h1 hk) (by omega) (Nat.le_refl _) (Nat.le_refl _) (fun o m q => ?_)
  obtain ⟨rfl, rfl⟩ := q
  exact Or.inl ⟨rfl, ⟨Nat.le_refl _, Nat.le_refl _⟩, rfl, rfl⟩
theorem zX1_init (hd : 3 ≤ d) (h1 : 1 ≤ x) (hk : tm_k μ x = 1) : tC mX1_init d 0 0 [(2, x)] μ (q_m (th4 (tm_w μ x 0 x) x)) := by
  refine tC_of rfl (Nat.le_of_ble_eq_true rfl) (zX1_init_0 ⟨h1, ?_⟩)
  refine rcl_of (d' := d - 1) (zJ2_init (by omega) h1 hk) (by omega) (Nat.le_refl _) (Nat.le_refl _) (fun o m q => ?_)
  obtain ⟨rfl, rfl⟩ := q
  exact Or.inl ⟨rfl, ⟨Nat.le_refl _, Nat.le_refl _⟩, rfl, rfl⟩
theorem zX2_init (h1 : 1 ≤ x) (hz : x < tm_z μ) (hk : tm_k μ x = 2) : tC mX2_init d 1 500 [(2, x), (2, w)] μ (q_m (tm_w (tm_w (tm_a μ 22 500) x 0 (tm_z μ)) x 9 w)) := by
  have k3 : tm_k (tm_a μ 22 500) x = 2 := by rw [tm_ka, if_neg (by omega)]; exact hk
  refine tC_of rfl (Nat.le_of_ble_eq_true rfl) (zX2_init_0 ⟨h1, by decide, ?_⟩)
  rintro m3 rfl
  refine ⟨⟨h1, k3⟩, ?_⟩
  rintro m5 rfl
  refine ⟨⟨h1, k3⟩, ?_⟩
  rintro m7 rfl
  exact ⟨by decide, rfl, rfl⟩
theorem zX3_init (h1 : 1 ≤ x) : tC mX3_init d 0 0 [(2, x)] μ (q_m μ) :=
  tC_of rfl (Nat.le_of_ble_eq_true rfl) (zX3_init_0 ⟨h1, by decide, rfl, rfl⟩)
theorem zX5_init (h1 : 1 ≤ x) : tC mX5_init d 0 0 [(2, x)] μ (q_m μ) :=
  tC_of rfl (Nat.le_of_ble_eq_true rfl) (zX5_init_0 ⟨h1, by decide, rfl, rfl⟩)
theorem zX4_init (h1 : 1 ≤ x) (hz : x < tm_z μ) (hk : tm_k μ x = 4) : tC mX4_init d 3 28 [(2, x)] μ (q_m (mkT μ x)) := by
  refine tC_of rfl (Nat.le_of_ble_eq_true rfl) (zX4_init_0 ⟨h1, by decide, ?_⟩)
  rintro μ3 rfl
  have k3 : tm_k (tm_a μ 26 8) x = 4 := by rw [tm_ka, if_neg (by omega)]; exact hk
  refine ⟨⟨h1, k3⟩, ?_⟩
  rintro μ5 rfl
  refine ⟨by decide, ?_⟩
  rintro μ7 rfl
  have k7 : tm_k (tm_a (tm_w (tm_a μ 26 8) x 0 (tm_z μ)) 27 12) x = 4 := by
    rw [tm_ka, if_neg (by show x ≠ tm_z μ + 1; omega)]; exact k3
  refine ⟨⟨h1, k7⟩, ?_⟩
  rintro μ9 rfl
  refine ⟨⟨h1, k7⟩, ?_⟩
  rintro μ11 rfl
  refine ⟨by decide, ?_⟩
  rintro μ13 rfl
  have k13 : tm_k (tm_a (tm_w (tm_w (tm_a (tm_w (tm_a μ 26 8) x 0 (tm_z μ)) 27 12) x 1 (tm_z (tm_w (tm_a μ 26 8) x 0 (tm_z μ)))) x 4 1) 20 8) x = 4 := by
    rw [tm_ka, if_neg (by show x ≠ tm_z μ + 1 + 1; omega)]; exact k7
  refine ⟨⟨h1, k13⟩, ?_⟩
  rintro μ15 rfl
  exact ⟨by decide, rfl, rfl⟩
end ZIN
