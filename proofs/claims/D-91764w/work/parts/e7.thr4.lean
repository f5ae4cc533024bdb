theorem t_out {z j n : Int} (hj : tr_s z 0 j) (h : j < 0 ∨ n ≤ j) : Int32.ofInt j < 0 ∨ n.toNat ≤ (Int32.ofInt j).toNatClampNeg := by
  by_cases q : vp_in (Int32.ofInt j) n.toNat
  · rw [vp_in_iff, tr_it hj] at q
    omega
  · unfold vp_in at q
    exact Classical.not_not.mp q
/-! EXCEPTIONS: rules of the instructions that fault -/
section IRULES
variable {M : tM} {d mc ms : Nat} {F : tF} {pc : Nat} {L : tLs} {S : tSt} {μ : tm_M} {nc ns : Nat}
theorem g_baloadN {j : Int} (hd : decode M.2.1 pc = .ok (.baload, 1)) (h1 : nc + 1 ≤ mc) (h2 : ns + 8 ≤ ms) (hS8 : S.length ≤ 100) (h : tT M d mc ms F pc L (tm_z μ) (tm_a μ 13 0) (nc + 1) (ns + 8)) : tH M d mc ms F pc L ((0, j) :: (2, 0) :: S) μ nc ns := by
  intro p l e R s m args below meth c D A sp ad0 z0 O ad ca H locs ls hg hR hS hL hT hl T hH X
  have e1 : (((0, j) :: (2, 0) :: S).map fun q => te_v ad q.1 q.2) = .int (Int32.ofInt j) :: .null :: S.map fun q => te_v ad q.1 q.2 := by simp [te_v, te_r, va_rf]
  rw [e1]
  refine t_fN h h1 h2 (st := S.map fun q => te_v ad q.1 q.2) (by rw [List.length_map]; exact hS8) O hg hR hS hL hl hH X (g := F0 m pc ls (.int (Int32.ofInt j) :: .null :: S.map fun q => te_v ad q.1 q.2)) (fun target hr => ?_)
  have hdc : decode c.code (F0 m pc ls (.int (Int32.ofInt j) :: .null :: S.map fun q => te_v ad q.1 q.2)).pc = .ok (.baload, 1) := by rw [O.b]; exact hd
  have k9 := Stand.baloadNull X O.x (g := F0 m pc ls (.int (Int32.ofInt j) :: .null :: S.map fun q => te_v ad q.1 q.2)) rfl (i := Int32.ofInt j) (rest := S.map fun q => te_v ad q.1 q.2) rfl hdc target
  exact k9 hr
theorem g_baloadO {a j : Int} (hd : decode M.2.1 pc = .ok (.baload, 1)) (ha : 1 ≤ a) (hk : tm_k μ a = 22) (ho : j < 0 ∨ tm_n μ a ≤ j) (h1 : nc + 3 ≤ mc) (h2 : ns + 800 ≤ ms) (hS8 : S.length ≤ 100) (h : tT M d mc ms F pc L (tm_z μ) (tm_a μ 14 0) (nc + 3) (ns + 800)) : tH M d mc ms F pc L ((0, j) :: (2, a) :: S) μ nc ns := by
  intro p l e R s m args below meth c D A sp ad0 z0 O ad ca H locs ls hg hR hS hL hT hl T hH X
  have ka := tr_r (ts_h (ts_t hT))
  have kj := ts_h (hT)
  have hP := hR.2.1 (a - 1).toNat _ (te_w_at ad ca μ ha ka.2)
  rw [te_ea hk (by decide)] at hP
  have hsz : (arrV (ca a) (tm_n μ a).toNat (fun j => .int (Int32.ofInt (tm_v μ a j)))).slots.size = (tm_n μ a).toNat := arrV_size _ _ _
  have hn := (hR.1.2 a ha ka.2).1
  rw [hk] at hn
  have hcell : T.heap[ad a]? = some (arrV (ca a) (tm_n μ a).toNat (fun j => .int (Int32.ofInt (tm_v μ a j)))) := by rw [hH]; exact hP
  have e1 : (((0, j) :: (2, a) :: S).map fun q => te_v ad q.1 q.2) = .int (Int32.ofInt j) :: .ref (ad a) :: S.map fun q => te_v ad q.1 q.2 := by
    rw [← va_rfr ad ha]
    rfl
  rw [e1]
  have hb := index_text_bytes (Int32.ofInt j) (n := (arrV (ca a) (tm_n μ a).toNat (fun j => .int (Int32.ofInt (tm_v μ a j)))).slots.size) (by rw [hsz]; omega)
  refine t_fM (T0 := TJ7) (k := 14) rfl (by decide) t_mA2 (by decide) (by decide) (by decide) (by decide) (by decide) (index_text_modelled _ _) (Nat.le_trans hb (by decide)) h h1 h2 (st := S.map fun q => te_v ad q.1 q.2) (by rw [List.length_map]; exact hS8) O hg hR hS hL hl hH X (g := F0 m pc ls (.int (Int32.ofInt j) :: .ref (ad a) :: S.map fun q => te_v ad q.1 q.2)) (fun target hr => ?_)
  have hdc : decode c.code (F0 m pc ls (.int (Int32.ofInt j) :: .ref (ad a) :: S.map fun q => te_v ad q.1 q.2)).pc = .ok (.baload, 1) := by rw [O.b]; exact hd
  have harr : s.isArrayOf (arrV (ca a) (tm_n μ a).toNat (fun j => .int (Int32.ofInt (tm_v μ a j)))) .byte := by
    have q := (hR.2.2.2 a ha ka.2 (by rw [hk]; decide)).1
    rw [hk] at q
    exact q _ _
  have hout : Int32.ofInt j < 0 ∨ (arrV (ca a) (tm_n μ a).toNat (fun j => .int (Int32.ofInt (tm_v μ a j)))).slots.size ≤ (Int32.ofInt j).toNatClampNeg := by
    rw [hsz]
    exact t_out kj ho
  have k9 := Stand.baloadOut X O.x (a := ad a) (ty := .byte) hcell harr hout (g := F0 m pc ls (.int (Int32.ofInt j) :: .ref (ad a) :: S.map fun q => te_v ad q.1 q.2)) rfl (rest := S.map fun q => te_v ad q.1 q.2) rfl hdc target
  exact k9 hr
theorem g_saloadN {j : Int} (hd : decode M.2.1 pc = .ok (.saload, 1)) (h1 : nc + 1 ≤ mc) (h2 : ns + 8 ≤ ms) (hS8 : S.length ≤ 100) (h : tT M d mc ms F pc L (tm_z μ) (tm_a μ 13 0) (nc + 1) (ns + 8)) : tH M d mc ms F pc L ((0, j) :: (2, 0) :: S) μ nc ns := by
  intro p l e R s m args below meth c D A sp ad0 z0 O ad ca H locs ls hg hR hS hL hT hl T hH X
  have e1 : (((0, j) :: (2, 0) :: S).map fun q => te_v ad q.1 q.2) = .int (Int32.ofInt j) :: .null :: S.map fun q => te_v ad q.1 q.2 := by simp [te_v, te_r, va_rf]
  rw [e1]
  refine t_fN h h1 h2 (st := S.map fun q => te_v ad q.1 q.2) (by rw [List.length_map]; exact hS8) O hg hR hS hL hl hH X (g := F0 m pc ls (.int (Int32.ofInt j) :: .null :: S.map fun q => te_v ad q.1 q.2)) (fun target hr => ?_)
  have hdc : decode c.code (F0 m pc ls (.int (Int32.ofInt j) :: .null :: S.map fun q => te_v ad q.1 q.2)).pc = .ok (.saload, 1) := by rw [O.b]; exact hd
  have k9 := Stand.saloadNull X O.x (g := F0 m pc ls (.int (Int32.ofInt j) :: .null :: S.map fun q => te_v ad q.1 q.2)) rfl (i := Int32.ofInt j) (rest := S.map fun q => te_v ad q.1 q.2) rfl hdc target
  exact k9 hr
theorem g_saloadO {a j : Int} (hd : decode M.2.1 pc = .ok (.saload, 1)) (ha : 1 ≤ a) (hk : tm_k μ a = 23) (ho : j < 0 ∨ tm_n μ a ≤ j) (h1 : nc + 3 ≤ mc) (h2 : ns + 800 ≤ ms) (hS8 : S.length ≤ 100) (h : tT M d mc ms F pc L (tm_z μ) (tm_a μ 14 0) (nc + 3) (ns + 800)) : tH M d mc ms F pc L ((0, j) :: (2, a) :: S) μ nc ns := by
  intro p l e R s m args below meth c D A sp ad0 z0 O ad ca H locs ls hg hR hS hL hT hl T hH X
  have ka := tr_r (ts_h (ts_t hT))
  have kj := ts_h (hT)
  have hP := hR.2.1 (a - 1).toNat _ (te_w_at ad ca μ ha ka.2)
  rw [te_ea hk (by decide)] at hP
  have hsz : (arrV (ca a) (tm_n μ a).toNat (fun j => .int (Int32.ofInt (tm_v μ a j)))).slots.size = (tm_n μ a).toNat := arrV_size _ _ _
  have hn := (hR.1.2 a ha ka.2).1
  rw [hk] at hn
  have hcell : T.heap[ad a]? = some (arrV (ca a) (tm_n μ a).toNat (fun j => .int (Int32.ofInt (tm_v μ a j)))) := by rw [hH]; exact hP
  have e1 : (((0, j) :: (2, a) :: S).map fun q => te_v ad q.1 q.2) = .int (Int32.ofInt j) :: .ref (ad a) :: S.map fun q => te_v ad q.1 q.2 := by
    rw [← va_rfr ad ha]
    rfl
  rw [e1]
  have hb := index_text_bytes (Int32.ofInt j) (n := (arrV (ca a) (tm_n μ a).toNat (fun j => .int (Int32.ofInt (tm_v μ a j)))).slots.size) (by rw [hsz]; omega)
  refine t_fM (T0 := TJ7) (k := 14) rfl (by decide) t_mA2 (by decide) (by decide) (by decide) (by decide) (by decide) (index_text_modelled _ _) (Nat.le_trans hb (by decide)) h h1 h2 (st := S.map fun q => te_v ad q.1 q.2) (by rw [List.length_map]; exact hS8) O hg hR hS hL hl hH X (g := F0 m pc ls (.int (Int32.ofInt j) :: .ref (ad a) :: S.map fun q => te_v ad q.1 q.2)) (fun target hr => ?_)
  have hdc : decode c.code (F0 m pc ls (.int (Int32.ofInt j) :: .ref (ad a) :: S.map fun q => te_v ad q.1 q.2)).pc = .ok (.saload, 1) := by rw [O.b]; exact hd
  have harr : s.isArrayOf (arrV (ca a) (tm_n μ a).toNat (fun j => .int (Int32.ofInt (tm_v μ a j)))) .short := by
    have q := (hR.2.2.2 a ha ka.2 (by rw [hk]; decide)).1
    rw [hk] at q
    exact q _ _
  have hout : Int32.ofInt j < 0 ∨ (arrV (ca a) (tm_n μ a).toNat (fun j => .int (Int32.ofInt (tm_v μ a j)))).slots.size ≤ (Int32.ofInt j).toNatClampNeg := by
    rw [hsz]
    exact t_out kj ho
  have k9 := Stand.saloadOut X O.x (a := ad a) (ty := .short) hcell harr hout (g := F0 m pc ls (.int (Int32.ofInt j) :: .ref (ad a) :: S.map fun q => te_v ad q.1 q.2)) rfl (rest := S.map fun q => te_v ad q.1 q.2) rfl hdc target
  exact k9 hr
theorem g_ialoadN {j : Int} (hd : decode M.2.1 pc = .ok (.iaload, 1)) (h1 : nc + 1 ≤ mc) (h2 : ns + 8 ≤ ms) (hS8 : S.length ≤ 100) (h : tT M d mc ms F pc L (tm_z μ) (tm_a μ 13 0) (nc + 1) (ns + 8)) : tH M d mc ms F pc L ((0, j) :: (2, 0) :: S) μ nc ns := by
  intro p l e R s m args below meth c D A sp ad0 z0 O ad ca H locs ls hg hR hS hL hT hl T hH X
  have e1 : (((0, j) :: (2, 0) :: S).map fun q => te_v ad q.1 q.2) = .int (Int32.ofInt j) :: .null :: S.map fun q => te_v ad q.1 q.2 := by simp [te_v, te_r, va_rf]
  rw [e1]
  refine t_fN h h1 h2 (st := S.map fun q => te_v ad q.1 q.2) (by rw [List.length_map]; exact hS8) O hg hR hS hL hl hH X (g := F0 m pc ls (.int (Int32.ofInt j) :: .null :: S.map fun q => te_v ad q.1 q.2)) (fun target hr => ?_)
  have hdc : decode c.code (F0 m pc ls (.int (Int32.ofInt j) :: .null :: S.map fun q => te_v ad q.1 q.2)).pc = .ok (.iaload, 1) := by rw [O.b]; exact hd
  have k9 := Stand.ialoadNull X O.x (g := F0 m pc ls (.int (Int32.ofInt j) :: .null :: S.map fun q => te_v ad q.1 q.2)) rfl (i := Int32.ofInt j) (rest := S.map fun q => te_v ad q.1 q.2) rfl hdc target
  exact k9 hr
theorem g_ialoadO {a j : Int} (hd : decode M.2.1 pc = .ok (.iaload, 1)) (ha : 1 ≤ a) (hk : tm_k μ a = 20) (ho : j < 0 ∨ tm_n μ a ≤ j) (h1 : nc + 3 ≤ mc) (h2 : ns + 800 ≤ ms) (hS8 : S.length ≤ 100) (h : tT M d mc ms F pc L (tm_z μ) (tm_a μ 14 0) (nc + 3) (ns + 800)) : tH M d mc ms F pc L ((0, j) :: (2, a) :: S) μ nc ns := by
  intro p l e R s m args below meth c D A sp ad0 z0 O ad ca H locs ls hg hR hS hL hT hl T hH X
  have ka := tr_r (ts_h (ts_t hT))
  have kj := ts_h (hT)
  have hP := hR.2.1 (a - 1).toNat _ (te_w_at ad ca μ ha ka.2)
  rw [te_ea hk (by decide)] at hP
  have hsz : (arrV (ca a) (tm_n μ a).toNat (fun j => .int (Int32.ofInt (tm_v μ a j)))).slots.size = (tm_n μ a).toNat := arrV_size _ _ _
  have hn := (hR.1.2 a ha ka.2).1
  rw [hk] at hn
  have hcell : T.heap[ad a]? = some (arrV (ca a) (tm_n μ a).toNat (fun j => .int (Int32.ofInt (tm_v μ a j)))) := by rw [hH]; exact hP
  have e1 : (((0, j) :: (2, a) :: S).map fun q => te_v ad q.1 q.2) = .int (Int32.ofInt j) :: .ref (ad a) :: S.map fun q => te_v ad q.1 q.2 := by
    rw [← va_rfr ad ha]
    rfl
  rw [e1]
  have hb := index_text_bytes (Int32.ofInt j) (n := (arrV (ca a) (tm_n μ a).toNat (fun j => .int (Int32.ofInt (tm_v μ a j)))).slots.size) (by rw [hsz]; omega)
  refine t_fM (T0 := TJ7) (k := 14) rfl (by decide) t_mA2 (by decide) (by decide) (by decide) (by decide) (by decide) (index_text_modelled _ _) (Nat.le_trans hb (by decide)) h h1 h2 (st := S.map fun q => te_v ad q.1 q.2) (by rw [List.length_map]; exact hS8) O hg hR hS hL hl hH X (g := F0 m pc ls (.int (Int32.ofInt j) :: .ref (ad a) :: S.map fun q => te_v ad q.1 q.2)) (fun target hr => ?_)
  have hdc : decode c.code (F0 m pc ls (.int (Int32.ofInt j) :: .ref (ad a) :: S.map fun q => te_v ad q.1 q.2)).pc = .ok (.iaload, 1) := by rw [O.b]; exact hd
  have harr : s.isArrayOf (arrV (ca a) (tm_n μ a).toNat (fun j => .int (Int32.ofInt (tm_v μ a j)))) .int := by
    have q := (hR.2.2.2 a ha ka.2 (by rw [hk]; decide)).1
    rw [hk] at q
    exact q _ _
  have hout : Int32.ofInt j < 0 ∨ (arrV (ca a) (tm_n μ a).toNat (fun j => .int (Int32.ofInt (tm_v μ a j)))).slots.size ≤ (Int32.ofInt j).toNatClampNeg := by
    rw [hsz]
    exact t_out kj ho
  have k9 := Stand.ialoadOut X O.x (a := ad a) (ty := .int) hcell harr hout (g := F0 m pc ls (.int (Int32.ofInt j) :: .ref (ad a) :: S.map fun q => te_v ad q.1 q.2)) rfl (rest := S.map fun q => te_v ad q.1 q.2) rfl hdc target
  exact k9 hr
theorem g_laloadN {j : Int} (hd : decode M.2.1 pc = .ok (.laload, 1)) (h1 : nc + 1 ≤ mc) (h2 : ns + 8 ≤ ms) (hS8 : S.length ≤ 100) (h : tT M d mc ms F pc L (tm_z μ) (tm_a μ 13 0) (nc + 1) (ns + 8)) : tH M d mc ms F pc L ((0, j) :: (2, 0) :: S) μ nc ns := by
  intro p l e R s m args below meth c D A sp ad0 z0 O ad ca H locs ls hg hR hS hL hT hl T hH X
  have e1 : (((0, j) :: (2, 0) :: S).map fun q => te_v ad q.1 q.2) = .int (Int32.ofInt j) :: .null :: S.map fun q => te_v ad q.1 q.2 := by simp [te_v, te_r, va_rf]
  rw [e1]
  refine t_fN h h1 h2 (st := S.map fun q => te_v ad q.1 q.2) (by rw [List.length_map]; exact hS8) O hg hR hS hL hl hH X (g := F0 m pc ls (.int (Int32.ofInt j) :: .null :: S.map fun q => te_v ad q.1 q.2)) (fun target hr => ?_)
  have hdc : decode c.code (F0 m pc ls (.int (Int32.ofInt j) :: .null :: S.map fun q => te_v ad q.1 q.2)).pc = .ok (.laload, 1) := by rw [O.b]; exact hd
  have k9 := Stand.laloadNull X O.x (g := F0 m pc ls (.int (Int32.ofInt j) :: .null :: S.map fun q => te_v ad q.1 q.2)) rfl (i := Int32.ofInt j) (rest := S.map fun q => te_v ad q.1 q.2) rfl hdc target
  exact k9 hr
theorem g_laloadO {a j : Int} (hd : decode M.2.1 pc = .ok (.laload, 1)) (ha : 1 ≤ a) (hk : tm_k μ a = 21) (ho : j < 0 ∨ tm_n μ a ≤ j) (h1 : nc + 3 ≤ mc) (h2 : ns + 800 ≤ ms) (hS8 : S.length ≤ 100) (h : tT M d mc ms F pc L (tm_z μ) (tm_a μ 14 0) (nc + 3) (ns + 800)) : tH M d mc ms F pc L ((0, j) :: (2, a) :: S) μ nc ns := by
  intro p l e R s m args below meth c D A sp ad0 z0 O ad ca H locs ls hg hR hS hL hT hl T hH X
  have ka := tr_r (ts_h (ts_t hT))
  have kj := ts_h (hT)
  have hP := hR.2.1 (a - 1).toNat _ (te_w_at ad ca μ ha ka.2)
  rw [te_ea hk (by decide)] at hP
  have hsz : (arrV (ca a) (tm_n μ a).toNat (fun j => .long (Int64.ofInt (tm_v μ a j)))).slots.size = (tm_n μ a).toNat := arrV_size _ _ _
  have hn := (hR.1.2 a ha ka.2).1
  rw [hk] at hn
  have hcell : T.heap[ad a]? = some (arrV (ca a) (tm_n μ a).toNat (fun j => .long (Int64.ofInt (tm_v μ a j)))) := by rw [hH]; exact hP
  have e1 : (((0, j) :: (2, a) :: S).map fun q => te_v ad q.1 q.2) = .int (Int32.ofInt j) :: .ref (ad a) :: S.map fun q => te_v ad q.1 q.2 := by
    rw [← va_rfr ad ha]
    rfl
  rw [e1]
  have hb := index_text_bytes (Int32.ofInt j) (n := (arrV (ca a) (tm_n μ a).toNat (fun j => .long (Int64.ofInt (tm_v μ a j)))).slots.size) (by rw [hsz]; omega)
  refine t_fM (T0 := TJ7) (k := 14) rfl (by decide) t_mA2 (by decide) (by decide) (by decide) (by decide) (by decide) (index_text_modelled _ _) (Nat.le_trans hb (by decide)) h h1 h2 (st := S.map fun q => te_v ad q.1 q.2) (by rw [List.length_map]; exact hS8) O hg hR hS hL hl hH X (g := F0 m pc ls (.int (Int32.ofInt j) :: .ref (ad a) :: S.map fun q => te_v ad q.1 q.2)) (fun target hr => ?_)
  have hdc : decode c.code (F0 m pc ls (.int (Int32.ofInt j) :: .ref (ad a) :: S.map fun q => te_v ad q.1 q.2)).pc = .ok (.laload, 1) := by rw [O.b]; exact hd
  have harr : s.isArrayOf (arrV (ca a) (tm_n μ a).toNat (fun j => .long (Int64.ofInt (tm_v μ a j)))) .long := by
    have q := (hR.2.2.2 a ha ka.2 (by rw [hk]; decide)).1
    rw [hk] at q
    exact q _ _
  have hout : Int32.ofInt j < 0 ∨ (arrV (ca a) (tm_n μ a).toNat (fun j => .long (Int64.ofInt (tm_v μ a j)))).slots.size ≤ (Int32.ofInt j).toNatClampNeg := by
    rw [hsz]
    exact t_out kj ho
  have k9 := Stand.laloadOut X O.x (a := ad a) (ty := .long) hcell harr hout (g := F0 m pc ls (.int (Int32.ofInt j) :: .ref (ad a) :: S.map fun q => te_v ad q.1 q.2)) rfl (rest := S.map fun q => te_v ad q.1 q.2) rfl hdc target
  exact k9 hr
theorem g_bastoreN {j : Int} {x : Int} (hd : decode M.2.1 pc = .ok (.bastore, 1)) (h1 : nc + 1 ≤ mc) (h2 : ns + 8 ≤ ms) (hS8 : S.length ≤ 100) (h : tT M d mc ms F pc L (tm_z μ) (tm_a μ 13 0) (nc + 1) (ns + 8)) : tH M d mc ms F pc L ((0, x) :: (0, j) :: (2, 0) :: S) μ nc ns := by
  intro p l e R s m args below meth c D A sp ad0 z0 O ad ca H locs ls hg hR hS hL hT hl T hH X
  have e1 : (((0, x) :: (0, j) :: (2, 0) :: S).map fun q => te_v ad q.1 q.2) = .int (Int32.ofInt x) :: .int (Int32.ofInt j) :: .null :: S.map fun q => te_v ad q.1 q.2 := by simp [te_v, te_r, va_rf]
  rw [e1]
  refine t_fN h h1 h2 (st := S.map fun q => te_v ad q.1 q.2) (by rw [List.length_map]; exact hS8) O hg hR hS hL hl hH X (g := F0 m pc ls (.int (Int32.ofInt x) :: .int (Int32.ofInt j) :: .null :: S.map fun q => te_v ad q.1 q.2)) (fun target hr => ?_)
  have hdc : decode c.code (F0 m pc ls (.int (Int32.ofInt x) :: .int (Int32.ofInt j) :: .null :: S.map fun q => te_v ad q.1 q.2)).pc = .ok (.bastore, 1) := by rw [O.b]; exact hd
  have k9 := Stand.bastoreNull X O.x (g := F0 m pc ls (.int (Int32.ofInt x) :: .int (Int32.ofInt j) :: .null :: S.map fun q => te_v ad q.1 q.2)) rfl (i := Int32.ofInt j) (rest := S.map fun q => te_v ad q.1 q.2) rfl hdc target
  exact k9 hr
theorem g_bastoreO {a j : Int} {x : Int} (hd : decode M.2.1 pc = .ok (.bastore, 1)) (ha : 1 ≤ a) (hk : tm_k μ a = 22) (ho : j < 0 ∨ tm_n μ a ≤ j) (h1 : nc + 3 ≤ mc) (h2 : ns + 800 ≤ ms) (hS8 : S.length ≤ 100) (h : tT M d mc ms F pc L (tm_z μ) (tm_a μ 14 0) (nc + 3) (ns + 800)) : tH M d mc ms F pc L ((0, x) :: (0, j) :: (2, a) :: S) μ nc ns := by
  intro p l e R s m args below meth c D A sp ad0 z0 O ad ca H locs ls hg hR hS hL hT hl T hH X
  have ka := tr_r (ts_h (ts_t (ts_t hT)))
  have kj := ts_h (ts_t hT)
  have hP := hR.2.1 (a - 1).toNat _ (te_w_at ad ca μ ha ka.2)
  rw [te_ea hk (by decide)] at hP
  have hsz : (arrV (ca a) (tm_n μ a).toNat (fun j => .int (Int32.ofInt (tm_v μ a j)))).slots.size = (tm_n μ a).toNat := arrV_size _ _ _
  have hn := (hR.1.2 a ha ka.2).1
  rw [hk] at hn
  have hcell : T.heap[ad a]? = some (arrV (ca a) (tm_n μ a).toNat (fun j => .int (Int32.ofInt (tm_v μ a j)))) := by rw [hH]; exact hP
  have e1 : (((0, x) :: (0, j) :: (2, a) :: S).map fun q => te_v ad q.1 q.2) = .int (Int32.ofInt x) :: .int (Int32.ofInt j) :: .ref (ad a) :: S.map fun q => te_v ad q.1 q.2 := by
    rw [← va_rfr ad ha]
    rfl
  rw [e1]
  have hb := index_text_bytes (Int32.ofInt j) (n := (arrV (ca a) (tm_n μ a).toNat (fun j => .int (Int32.ofInt (tm_v μ a j)))).slots.size) (by rw [hsz]; omega)
  refine t_fM (T0 := TJ7) (k := 14) rfl (by decide) t_mA2 (by decide) (by decide) (by decide) (by decide) (by decide) (index_text_modelled _ _) (Nat.le_trans hb (by decide)) h h1 h2 (st := S.map fun q => te_v ad q.1 q.2) (by rw [List.length_map]; exact hS8) O hg hR hS hL hl hH X (g := F0 m pc ls (.int (Int32.ofInt x) :: .int (Int32.ofInt j) :: .ref (ad a) :: S.map fun q => te_v ad q.1 q.2)) (fun target hr => ?_)
  have hdc : decode c.code (F0 m pc ls (.int (Int32.ofInt x) :: .int (Int32.ofInt j) :: .ref (ad a) :: S.map fun q => te_v ad q.1 q.2)).pc = .ok (.bastore, 1) := by rw [O.b]; exact hd
  have harr : s.isArrayOf (arrV (ca a) (tm_n μ a).toNat (fun j => .int (Int32.ofInt (tm_v μ a j)))) .byte := by
    have q := (hR.2.2.2 a ha ka.2 (by rw [hk]; decide)).1
    rw [hk] at q
    exact q _ _
  have hout : Int32.ofInt j < 0 ∨ (arrV (ca a) (tm_n μ a).toNat (fun j => .int (Int32.ofInt (tm_v μ a j)))).slots.size ≤ (Int32.ofInt j).toNatClampNeg := by
    rw [hsz]
    exact t_out kj ho
  have k9 := Stand.bastoreOut X O.x (a := ad a) (ty := .byte) hcell harr hout (g := F0 m pc ls (.int (Int32.ofInt x) :: .int (Int32.ofInt j) :: .ref (ad a) :: S.map fun q => te_v ad q.1 q.2)) rfl (rest := S.map fun q => te_v ad q.1 q.2) rfl hdc target
  exact k9 hr
theorem g_sastoreN {j : Int} {x : Int} (hd : decode M.2.1 pc = .ok (.sastore, 1)) (h1 : nc + 1 ≤ mc) (h2 : ns + 8 ≤ ms) (hS8 : S.length ≤ 100) (h : tT M d mc ms F pc L (tm_z μ) (tm_a μ 13 0) (nc + 1) (ns + 8)) : tH M d mc ms F pc L ((0, x) :: (0, j) :: (2, 0) :: S) μ nc ns := by
  intro p l e R s m args below meth c D A sp ad0 z0 O ad ca H locs ls hg hR hS hL hT hl T hH X
  have e1 : (((0, x) :: (0, j) :: (2, 0) :: S).map fun q => te_v ad q.1 q.2) = .int (Int32.ofInt x) :: .int (Int32.ofInt j) :: .null :: S.map fun q => te_v ad q.1 q.2 := by simp [te_v, te_r, va_rf]
  rw [e1]
  refine t_fN h h1 h2 (st := S.map fun q => te_v ad q.1 q.2) (by rw [List.length_map]; exact hS8) O hg hR hS hL hl hH X (g := F0 m pc ls (.int (Int32.ofInt x) :: .int (Int32.ofInt j) :: .null :: S.map fun q => te_v ad q.1 q.2)) (fun target hr => ?_)
  have hdc : decode c.code (F0 m pc ls (.int (Int32.ofInt x) :: .int (Int32.ofInt j) :: .null :: S.map fun q => te_v ad q.1 q.2)).pc = .ok (.sastore, 1) := by rw [O.b]; exact hd
  have k9 := Stand.sastoreNull X O.x (g := F0 m pc ls (.int (Int32.ofInt x) :: .int (Int32.ofInt j) :: .null :: S.map fun q => te_v ad q.1 q.2)) rfl (i := Int32.ofInt j) (rest := S.map fun q => te_v ad q.1 q.2) rfl hdc target
  exact k9 hr
theorem g_sastoreO {a j : Int} {x : Int} (hd : decode M.2.1 pc = .ok (.sastore, 1)) (ha : 1 ≤ a) (hk : tm_k μ a = 23) (ho : j < 0 ∨ tm_n μ a ≤ j) (h1 : nc + 3 ≤ mc) (h2 : ns + 800 ≤ ms) (hS8 : S.length ≤ 100) (h : tT M d mc ms F pc L (tm_z μ) (tm_a μ 14 0) (nc + 3) (ns + 800)) : tH M d mc ms F pc L ((0, x) :: (0, j) :: (2, a) :: S) μ nc ns := by
  intro p l e R s m args below meth c D A sp ad0 z0 O ad ca H locs ls hg hR hS hL hT hl T hH X
  have ka := tr_r (ts_h (ts_t (ts_t hT)))
  have kj := ts_h (ts_t hT)
  have hP := hR.2.1 (a - 1).toNat _ (te_w_at ad ca μ ha ka.2)
  rw [te_ea hk (by decide)] at hP
  have hsz : (arrV (ca a) (tm_n μ a).toNat (fun j => .int (Int32.ofInt (tm_v μ a j)))).slots.size = (tm_n μ a).toNat := arrV_size _ _ _
  have hn := (hR.1.2 a ha ka.2).1
  rw [hk] at hn
  have hcell : T.heap[ad a]? = some (arrV (ca a) (tm_n μ a).toNat (fun j => .int (Int32.ofInt (tm_v μ a j)))) := by rw [hH]; exact hP
  have e1 : (((0, x) :: (0, j) :: (2, a) :: S).map fun q => te_v ad q.1 q.2) = .int (Int32.ofInt x) :: .int (Int32.ofInt j) :: .ref (ad a) :: S.map fun q => te_v ad q.1 q.2 := by
    rw [← va_rfr ad ha]
    rfl
  rw [e1]
  have hb := index_text_bytes (Int32.ofInt j) (n := (arrV (ca a) (tm_n μ a).toNat (fun j => .int (Int32.ofInt (tm_v μ a j)))).slots.size) (by rw [hsz]; omega)
  refine t_fM (T0 := TJ7) (k := 14) rfl (by decide) t_mA2 (by decide) (by decide) (by decide) (by decide) (by decide) (index_text_modelled _ _) (Nat.le_trans hb (by decide)) h h1 h2 (st := S.map fun q => te_v ad q.1 q.2) (by rw [List.length_map]; exact hS8) O hg hR hS hL hl hH X (g := F0 m pc ls (.int (Int32.ofInt x) :: .int (Int32.ofInt j) :: .ref (ad a) :: S.map fun q => te_v ad q.1 q.2)) (fun target hr => ?_)
  have hdc : decode c.code (F0 m pc ls (.int (Int32.ofInt x) :: .int (Int32.ofInt j) :: .ref (ad a) :: S.map fun q => te_v ad q.1 q.2)).pc = .ok (.sastore, 1) := by rw [O.b]; exact hd
  have harr : s.isArrayOf (arrV (ca a) (tm_n μ a).toNat (fun j => .int (Int32.ofInt (tm_v μ a j)))) .short := by
    have q := (hR.2.2.2 a ha ka.2 (by rw [hk]; decide)).1
    rw [hk] at q
    exact q _ _
  have hout : Int32.ofInt j < 0 ∨ (arrV (ca a) (tm_n μ a).toNat (fun j => .int (Int32.ofInt (tm_v μ a j)))).slots.size ≤ (Int32.ofInt j).toNatClampNeg := by
    rw [hsz]
    exact t_out kj ho
  have k9 := Stand.sastoreOut X O.x (a := ad a) (ty := .short) hcell harr hout (g := F0 m pc ls (.int (Int32.ofInt x) :: .int (Int32.ofInt j) :: .ref (ad a) :: S.map fun q => te_v ad q.1 q.2)) rfl (rest := S.map fun q => te_v ad q.1 q.2) rfl hdc target
  exact k9 hr
theorem g_iastoreN {j : Int} {x : Int} (hd : decode M.2.1 pc = .ok (.iastore, 1)) (h1 : nc + 1 ≤ mc) (h2 : ns + 8 ≤ ms) (hS8 : S.length ≤ 100) (h : tT M d mc ms F pc L (tm_z μ) (tm_a μ 13 0) (nc + 1) (ns + 8)) : tH M d mc ms F pc L ((0, x) :: (0, j) :: (2, 0) :: S) μ nc ns := by
  intro p l e R s m args below meth c D A sp ad0 z0 O ad ca H locs ls hg hR hS hL hT hl T hH X
  have e1 : (((0, x) :: (0, j) :: (2, 0) :: S).map fun q => te_v ad q.1 q.2) = .int (Int32.ofInt x) :: .int (Int32.ofInt j) :: .null :: S.map fun q => te_v ad q.1 q.2 := by simp [te_v, te_r, va_rf]
  rw [e1]
  refine t_fN h h1 h2 (st := S.map fun q => te_v ad q.1 q.2) (by rw [List.length_map]; exact hS8) O hg hR hS hL hl hH X (g := F0 m pc ls (.int (Int32.ofInt x) :: .int (Int32.ofInt j) :: .null :: S.map fun q => te_v ad q.1 q.2)) (fun target hr => ?_)
  have hdc : decode c.code (F0 m pc ls (.int (Int32.ofInt x) :: .int (Int32.ofInt j) :: .null :: S.map fun q => te_v ad q.1 q.2)).pc = .ok (.iastore, 1) := by rw [O.b]; exact hd
  have k9 := Stand.iastoreNull X O.x (g := F0 m pc ls (.int (Int32.ofInt x) :: .int (Int32.ofInt j) :: .null :: S.map fun q => te_v ad q.1 q.2)) rfl (i := Int32.ofInt j) (rest := S.map fun q => te_v ad q.1 q.2) rfl hdc target
  exact k9 hr
theorem g_iastoreO {a j : Int} {x : Int} (hd : decode M.2.1 pc = .ok (.iastore, 1)) (ha : 1 ≤ a) (hk : tm_k μ a = 20) (ho : j < 0 ∨ tm_n μ a ≤ j) (h1 : nc + 3 ≤ mc) (h2 : ns + 800 ≤ ms) (hS8 : S.length ≤ 100) (h : tT M d mc ms F pc L (tm_z μ) (tm_a μ 14 0) (nc + 3) (ns + 800)) : tH M d mc ms F pc L ((0, x) :: (0, j) :: (2, a) :: S) μ nc ns := by
  intro p l e R s m args below meth c D A sp ad0 z0 O ad ca H locs ls hg hR hS hL hT hl T hH X
  have ka := tr_r (ts_h (ts_t (ts_t hT)))
  have kj := ts_h (ts_t hT)
  have hP := hR.2.1 (a - 1).toNat _ (te_w_at ad ca μ ha ka.2)
  rw [te_ea hk (by decide)] at hP
  have hsz : (arrV (ca a) (tm_n μ a).toNat (fun j => .int (Int32.ofInt (tm_v μ a j)))).slots.size = (tm_n μ a).toNat := arrV_size _ _ _
  have hn := (hR.1.2 a ha ka.2).1
  rw [hk] at hn
  have hcell : T.heap[ad a]? = some (arrV (ca a) (tm_n μ a).toNat (fun j => .int (Int32.ofInt (tm_v μ a j)))) := by rw [hH]; exact hP
  have e1 : (((0, x) :: (0, j) :: (2, a) :: S).map fun q => te_v ad q.1 q.2) = .int (Int32.ofInt x) :: .int (Int32.ofInt j) :: .ref (ad a) :: S.map fun q => te_v ad q.1 q.2 := by
    rw [← va_rfr ad ha]
    rfl
  rw [e1]
  have hb := index_text_bytes (Int32.ofInt j) (n := (arrV (ca a) (tm_n μ a).toNat (fun j => .int (Int32.ofInt (tm_v μ a j)))).slots.size) (by rw [hsz]; omega)
  refine t_fM (T0 := TJ7) (k := 14) rfl (by decide) t_mA2 (by decide) (by decide) (by decide) (by decide) (by decide) (index_text_modelled _ _) (Nat.le_trans hb (by decide)) h h1 h2 (st := S.map fun q => te_v ad q.1 q.2) (by rw [List.length_map]; exact hS8) O hg hR hS hL hl hH X (g := F0 m pc ls (.int (Int32.ofInt x) :: .int (Int32.ofInt j) :: .ref (ad a) :: S.map fun q => te_v ad q.1 q.2)) (fun target hr => ?_)
  have hdc : decode c.code (F0 m pc ls (.int (Int32.ofInt x) :: .int (Int32.ofInt j) :: .ref (ad a) :: S.map fun q => te_v ad q.1 q.2)).pc = .ok (.iastore, 1) := by rw [O.b]; exact hd
  have harr : s.isArrayOf (arrV (ca a) (tm_n μ a).toNat (fun j => .int (Int32.ofInt (tm_v μ a j)))) .int := by
    have q := (hR.2.2.2 a ha ka.2 (by rw [hk]; decide)).1
    rw [hk] at q
    exact q _ _
  have hout : Int32.ofInt j < 0 ∨ (arrV (ca a) (tm_n μ a).toNat (fun j => .int (Int32.ofInt (tm_v μ a j)))).slots.size ≤ (Int32.ofInt j).toNatClampNeg := by
    rw [hsz]
    exact t_out kj ho
  have k9 := Stand.iastoreOut X O.x (a := ad a) (ty := .int) hcell harr hout (g := F0 m pc ls (.int (Int32.ofInt x) :: .int (Int32.ofInt j) :: .ref (ad a) :: S.map fun q => te_v ad q.1 q.2)) rfl (rest := S.map fun q => te_v ad q.1 q.2) rfl hdc target
  exact k9 hr
theorem g_lastoreN {j : Int} {x : Int} (hd : decode M.2.1 pc = .ok (.lastore, 1)) (h1 : nc + 1 ≤ mc) (h2 : ns + 8 ≤ ms) (hS8 : S.length ≤ 100) (h : tT M d mc ms F pc L (tm_z μ) (tm_a μ 13 0) (nc + 1) (ns + 8)) : tH M d mc ms F pc L ((1, x) :: (0, j) :: (2, 0) :: S) μ nc ns := by
  intro p l e R s m args below meth c D A sp ad0 z0 O ad ca H locs ls hg hR hS hL hT hl T hH X
  have e1 : (((1, x) :: (0, j) :: (2, 0) :: S).map fun q => te_v ad q.1 q.2) = .long (Int64.ofInt x) :: .int (Int32.ofInt j) :: .null :: S.map fun q => te_v ad q.1 q.2 := by simp [te_v, te_r, va_rf]
  rw [e1]
  refine t_fN h h1 h2 (st := S.map fun q => te_v ad q.1 q.2) (by rw [List.length_map]; exact hS8) O hg hR hS hL hl hH X (g := F0 m pc ls (.long (Int64.ofInt x) :: .int (Int32.ofInt j) :: .null :: S.map fun q => te_v ad q.1 q.2)) (fun target hr => ?_)
  have hdc : decode c.code (F0 m pc ls (.long (Int64.ofInt x) :: .int (Int32.ofInt j) :: .null :: S.map fun q => te_v ad q.1 q.2)).pc = .ok (.lastore, 1) := by rw [O.b]; exact hd
  have k9 := Stand.lastoreNull X O.x (g := F0 m pc ls (.long (Int64.ofInt x) :: .int (Int32.ofInt j) :: .null :: S.map fun q => te_v ad q.1 q.2)) rfl (i := Int32.ofInt j) (rest := S.map fun q => te_v ad q.1 q.2) rfl hdc target
  exact k9 hr
theorem g_lastoreO {a j : Int} {x : Int} (hd : decode M.2.1 pc = .ok (.lastore, 1)) (ha : 1 ≤ a) (hk : tm_k μ a = 21) (ho : j < 0 ∨ tm_n μ a ≤ j) (h1 : nc + 3 ≤ mc) (h2 : ns + 800 ≤ ms) (hS8 : S.length ≤ 100) (h : tT M d mc ms F pc L (tm_z μ) (tm_a μ 14 0) (nc + 3) (ns + 800)) : tH M d mc ms F pc L ((1, x) :: (0, j) :: (2, a) :: S) μ nc ns := by
  intro p l e R s m args below meth c D A sp ad0 z0 O ad ca H locs ls hg hR hS hL hT hl T hH X
  have ka := tr_r (ts_h (ts_t (ts_t hT)))
  have kj := ts_h (ts_t hT)
  have hP := hR.2.1 (a - 1).toNat _ (te_w_at ad ca μ ha ka.2)
  rw [te_ea hk (by decide)] at hP
  have hsz : (arrV (ca a) (tm_n μ a).toNat (fun j => .long (Int64.ofInt (tm_v μ a j)))).slots.size = (tm_n μ a).toNat := arrV_size _ _ _
  have hn := (hR.1.2 a ha ka.2).1
  rw [hk] at hn
  have hcell : T.heap[ad a]? = some (arrV (ca a) (tm_n μ a).toNat (fun j => .long (Int64.ofInt (tm_v μ a j)))) := by rw [hH]; exact hP
  have e1 : (((1, x) :: (0, j) :: (2, a) :: S).map fun q => te_v ad q.1 q.2) = .long (Int64.ofInt x) :: .int (Int32.ofInt j) :: .ref (ad a) :: S.map fun q => te_v ad q.1 q.2 := by
    rw [← va_rfr ad ha]
    rfl
  rw [e1]
  have hb := index_text_bytes (Int32.ofInt j) (n := (arrV (ca a) (tm_n μ a).toNat (fun j => .long (Int64.ofInt (tm_v μ a j)))).slots.size) (by rw [hsz]; omega)
  refine t_fM (T0 := TJ7) (k := 14) rfl (by decide) t_mA2 (by decide) (by decide) (by decide) (by decide) (by decide) (index_text_modelled _ _) (Nat.le_trans hb (by decide)) h h1 h2 (st := S.map fun q => te_v ad q.1 q.2) (by rw [List.length_map]; exact hS8) O hg hR hS hL hl hH X (g := F0 m pc ls (.long (Int64.ofInt x) :: .int (Int32.ofInt j) :: .ref (ad a) :: S.map fun q => te_v ad q.1 q.2)) (fun target hr => ?_)
  have hdc : decode c.code (F0 m pc ls (.long (Int64.ofInt x) :: .int (Int32.ofInt j) :: .ref (ad a) :: S.map fun q => te_v ad q.1 q.2)).pc = .ok (.lastore, 1) := by rw [O.b]; exact hd
  have harr : s.isArrayOf (arrV (ca a) (tm_n μ a).toNat (fun j => .long (Int64.ofInt (tm_v μ a j)))) .long := by
    have q := (hR.2.2.2 a ha ka.2 (by rw [hk]; decide)).1
    rw [hk] at q
    exact q _ _
  have hout : Int32.ofInt j < 0 ∨ (arrV (ca a) (tm_n μ a).toNat (fun j => .long (Int64.ofInt (tm_v μ a j)))).slots.size ≤ (Int32.ofInt j).toNatClampNeg := by
    rw [hsz]
    exact t_out kj ho
  have k9 := Stand.lastoreOut X O.x (a := ad a) (ty := .long) hcell harr hout (g := F0 m pc ls (.long (Int64.ofInt x) :: .int (Int32.ofInt j) :: .ref (ad a) :: S.map fun q => te_v ad q.1 q.2)) rfl (rest := S.map fun q => te_v ad q.1 q.2) rfl hdc target
  exact k9 hr
theorem g_newarrayNeg {n : Int} {atype : ArrayType} (hd : decode M.2.1 pc = .ok (.newarray atype, 2)) (hn : n < 0) (h1 : nc + 3 ≤ mc) (h2 : ns + 800 ≤ ms) (hS8 : S.length ≤ 100) (h : tT M d mc ms F pc L (tm_z μ) (tm_a μ 12 0) (nc + 3) (ns + 800)) : tH M d mc ms F pc L ((0, n) :: S) μ nc ns := by
  intro p l e R s m args below meth c D A sp ad0 z0 O ad ca H locs ls hg hR hS hL hT hl T hH X
  have kn := ts_h hT
  have hneg : Int32.ofInt n < 0 := by
    rw [Int32.lt_iff_toInt_lt, tr_it kn]
    exact hn
  refine t_fM (T0 := TJ3) (k := 12) rfl (by decide) t_mA1 (by decide) (by decide) (by decide) (by decide) (by decide) (negative_text_modelled hneg) (Nat.le_trans (negative_text_bytes (Int32.ofInt n)) (by decide)) h h1 h2 (st := S.map fun q => te_v ad q.1 q.2) (by rw [List.length_map]; exact hS8) O hg hR hS hL hl hH X (g := F0 m pc ls (.int (Int32.ofInt n) :: S.map fun q => te_v ad q.1 q.2)) (fun target hr => ?_)
  have hdc : decode c.code (F0 m pc ls (.int (Int32.ofInt n) :: S.map fun q => te_v ad q.1 q.2)).pc = .ok (.newarray atype, 2) := by rw [O.b]; exact hd
  have k9 := Stand.newarrayNegative X O.x (g := F0 m pc ls (.int (Int32.ofInt n) :: S.map fun q => te_v ad q.1 q.2)) rfl hneg (rest := S.map fun q => te_v ad q.1 q.2) rfl hdc target
  exact k9 hr
end IRULES

