/-! CONSTRUCTORS of TwoSeek and TwoSeekModel, from the empty memory (gen/ui.py) -/
def iE0 : tm_M := (1, fun _ => 0, fun _ => 0, fun _ _ => 0)
def iA0 : tm_M := tm_a iE0 0 48
def iA1 : tm_M := tm_a iA0 25 4
def iA2 : tm_M := tm_w iA1 1 0 2
def iA3 : tm_M := tm_a iA2 1 8
def iA4 : tm_M := th4 (tm_w iA3 3 0 3) 3
def iA5 : tm_M := tm_w iA4 1 1 3
def iA6 : tm_M := tm_a iA5 2 10
def iA7 : tm_M := tm_w (tm_w (tm_a iA6 22 500) 4 0 (tm_z iA6)) 4 9 3
def iA8 : tm_M := tm_w iA7 1 2 4
def iA9 : tm_M := tm_a iA8 28 12
def iA10 : tm_M := tm_w iA9 1 3 6
def iA11 : tm_M := tm_a iA10 3 4
def iA12 : tm_M := tm_w iA11 1 4 7
def iA13 : tm_M := tm_a iA12 3 4
def iA14 : tm_M := tm_w iA13 1 5 8
def iA15 : tm_M := tm_a iA14 3 4
def iA16 : tm_M := tm_w iA15 1 6 9
def iA17 : tm_M := tm_a iA16 20 8
def iA18 : tm_M := tm_w iA17 1 7 10
def iA19 : tm_M := tm_a iA18 4 8
def iA20 : tm_M := mkT iA19 11
def iA21 : tm_M := tm_w iA20 1 8 11
def iA22 : tm_M := tm_w iA21 1 11 (-1)
def iA23 : tm_M := tm_w iA22 1 12 (-1)
def iA24 : tm_M := tm_w iA23 1 15 1
def iA25 : tm_M := tm_a iA24 20 8
def iA26 : tm_M := tm_w iA25 1 17 15
def iA27 : tm_M := tm_a iA26 20 8
def iA28 : tm_M := tm_w iA27 1 18 16
def iA29 : tm_M := mk2 iA28 30 20 9 64
def iA30 : tm_M := tm_w iA29 1 19 17
def iA31 : tm_M := mk2 iA30 30 20 9 64
def iA32 : tm_M := tm_w iA31 1 20 27
def iA33 : tm_M := tm_a iA32 20 5
def iA34 : tm_M := tm_w iA33 1 21 37
def iA35 : tm_M := tm_a iA34 20 5
def iA36 : tm_M := tm_w iA35 1 22 38
def iA37 : tm_M := tm_a iA36 20 5
def iA38 : tm_M := tm_w iA37 1 23 39
def iA39 : tm_M := tm_a iA38 20 5
def iA40 : tm_M := tm_w iA39 1 24 40
def iA41 : tm_M := mk2 iA40 30 20 2 3
def iA42 : tm_M := tm_w iA41 1 25 41
def iA43 : tm_M := tm_a iA42 20 5
def iA44 : tm_M := tm_w iA43 1 26 44
def iA45 : tm_M := tm_a iA44 24 64
def iA46 : tm_M := tm_w iA45 1 32 45
def iA47 : tm_M := tm_a iA46 20 64
def iA48 : tm_M := tm_w iA47 1 33 46
def iA49 : tm_M := tm_a iA48 20 8
def iA50 : tm_M := tm_w iA49 1 34 47
def iA51 : tm_M := tm_a iA50 21 64
def iA52 : tm_M := tm_w iA51 1 35 48
def iA53 : tm_M := tm_a iA52 21 64
def iA54 : tm_M := tm_w iA53 1 36 49
def iA55 : tm_M := tm_a iA54 29 3
def iA56 : tm_M := tm_w iA55 50 0 7
def iA57 : tm_M := tm_w iA56 50 1 8
def iA58 : tm_M := tm_w iA57 50 2 9
def iA59 : tm_M := tm_w iA58 1 37 50
def iA60 : tm_M := tm_a iA59 20 3
def iA61 : tm_M := tm_w iA60 1 38 51
def iA62 : tm_M := mk2 iA61 31 21 3 3
def iA63 : tm_M := tm_w iA62 1 39 52
def iA64 : tm_M := tm_a iA63 21 3
def iA65 : tm_M := tm_w iA64 1 40 56
def iA66 : tm_M := tm_a iA65 21 3
def iA67 : tm_M := tm_w iA66 1 41 57
def iA68 : tm_M := tm_a iA67 21 3
def iA69 : tm_M := tm_w iA68 1 42 58
def iA70 : tm_M := tm_a iA69 21 3
def iA71 : tm_M := tm_w iA70 1 43 59
def iA72 : tm_M := tm_a iA71 21 3
def iA73 : tm_M := tm_w iA72 1 44 60
def iA74 : tm_M := tm_a iA73 5 2
def iA75 : tm_M := tm_w iA74 2 0 61
def iA76 : tm_M := tm_a iA75 5 2
def iA77 : tm_M := tm_w iA76 2 1 62
def iA78 : tm_M := tm_a iA77 5 2
def iA79 : tm_M := tm_w iA78 2 2 63
def iA80 : tm_M := tm_a iA79 5 2
def iA81 : tm_M := tm_w iA80 2 3 64
theorem zX0_init {d : Nat} (hd : 4 ≤ d) : tC mX0_init d 63 2114 [(2, 1)] iA0 (q_m iA81) := by
  refine tC_of rfl (Nat.le_of_ble_eq_true rfl) ?_
  refine g_aload_n (q := 0) dX0_init_0 rfl rfl ?_
  refine g_objInit dX0_init_1 q147 q148 q149 (by decide) (Nat.le_of_ble_eq_true rfl) ?_
  refine g_aload_n (q := 0) dX0_init_4 rfl rfl ?_
  refine g_iconst dX0_init_5 (by decide) ?_
  refine g_anew (k := 25) dX0_init_6 (by decide) rfl q150 q151 (by decide) (by decide) (by decide) (p_r fun m e => ?_)
  have e : m = iA1 := e
  subst e
  rw [show tm_z iA0 = 2 by decide +kernel]
  refine g_putF dX0_init_9 fX0_11F rfl rfl (by decide) (by decide +kernel) (fun e => absurd e (by decide)) (p_r fun m e => ?_)
  have e : m = iA2 := e
  subst e
  refine g_aload_n (q := 0) dX0_init_12 rfl rfl ?_
  refine g_new dX0_init_13 ck1 (by decide) q152 q153 q120 (by decide) (by decide) (p_r fun m e => ?_)
  have e : m = iA3 := e
  subst e
  rw [show tm_z iA2 = 3 by decide +kernel]
  refine g_dup dX0_init_16 (by decide) ?_
  refine g_callI (as := []) (S := [(2, 3), (2, 1)]) dX0_init_17 kX1_init rfl rfl rfl q207 q208 rfl rfl hd (by decide) (by decide) (by decide) (Nat.le_of_ble_eq_true rfl) ((zX1_init (d := 3) (μ := iA3) (x := 3) (by decide) (by decide) (by decide +kernel)).mono fun o m q => ?_)
  obtain ⟨rfl, e⟩ := q
  have e : m = iA4 := e
  subst e
  refine rk_goV (A := True) (B := fun _ => False) (Or.inl ⟨rfl, trivial⟩) (fun _ => ?_) (fun a h => h.elim)
  refine g_putF dX0_init_20 fX0_18F rfl rfl (by decide) (by decide +kernel) (fun e => absurd e (by decide)) (p_r fun m e => ?_)
  have e : m = iA5 := e
  subst e
  refine g_aload_n (q := 0) dX0_init_23 rfl rfl ?_
  refine g_new dX0_init_24 ck2 (by decide) q240 q241 q121 (by decide) (by decide) (p_r fun m e => ?_)
  have e : m = iA6 := e
  subst e
  rw [show tm_z iA5 = 4 by decide +kernel]
  refine g_dup dX0_init_27 (by decide) ?_
  refine g_aload_n (q := 0) dX0_init_28 rfl rfl ?_
  refine g_getC (x := 3) 2 dX0_init_29 fX0_18 rfl (by decide) (by decide +kernel) (by decide +kernel) ?_
  refine g_callI (as := [(2, 3)]) (S := [(2, 4), (2, 1)]) dX0_init_32 kX2_init rfl rfl rfl q242 q243 rfl rfl (by omega) (by decide) (by decide) (by decide) (Nat.le_of_ble_eq_true rfl) ((zX2_init (d := 0) (μ := iA6) (x := 4) (w := 3) (by decide) (by decide +kernel) (by decide +kernel)).mono fun o m q => ?_)
  obtain ⟨rfl, e⟩ := q
  have e : m = iA7 := e
  subst e
  refine rk_goV (A := True) (B := fun _ => False) (Or.inl ⟨rfl, trivial⟩) (fun _ => ?_) (fun a h => h.elim)
  refine g_putF dX0_init_35 fX0_27F rfl rfl (by decide) (by decide +kernel) (fun e => absurd e (by decide)) (p_r fun m e => ?_)
  have e : m = iA8 := e
  subst e
  refine g_aload_n (q := 0) dX0_init_38 rfl rfl ?_
  refine g_bipush dX0_init_39 ⟨by decide, by decide, rfl⟩ ?_
  refine g_anew (k := 28) dX0_init_41 (by decide) rfl q279 q280 (by decide) (by decide) (by decide) (p_r fun m e => ?_)
  have e : m = iA9 := e
  subst e
  rw [show tm_z iA8 = 6 by decide +kernel]
  refine g_putF dX0_init_44 fX0_33F rfl rfl (by decide) (by decide +kernel) (fun e => absurd e (by decide)) (p_r fun m e => ?_)
  have e : m = iA10 := e
  subst e
  refine g_aload_n (q := 0) dX0_init_47 rfl rfl ?_
  refine g_new dX0_init_48 ck3 (by decide) q281 q282 q122 (by decide) (by decide) (p_r fun m e => ?_)
  have e : m = iA11 := e
  subst e
  rw [show tm_z iA10 = 7 by decide +kernel]
  refine g_dup dX0_init_51 (by decide) ?_
  refine g_callIN (as := []) (S := [(2, 7), (2, 1)]) dX0_init_52 kX3_init rfl rfl rfl q283 q284 rfl rfl (by omega) (by decide) (by decide) (by decide) (Nat.le_of_ble_eq_true rfl) ((zX3_init (d := 0) (μ := iA11) (x := 7) (by decide)).mono fun o m q => ?_)
  obtain ⟨rfl, e⟩ := q
  have e : m = iA11 := e
  subst e
  refine rk_goV (A := True) (B := fun _ => False) (Or.inl ⟨rfl, trivial⟩) (fun _ => ?_) (fun a h => h.elim)
  refine g_putF dX0_init_55 fX0_40F rfl rfl (by decide) (by decide +kernel) (fun e => absurd e (by decide)) (p_r fun m e => ?_)
  have e : m = iA12 := e
  subst e
  refine g_aload_n (q := 0) dX0_init_58 rfl rfl ?_
  refine g_new dX0_init_59 ck3 (by decide) q281 q282 q122 (by decide) (by decide) (p_r fun m e => ?_)
  have e : m = iA13 := e
  subst e
  rw [show tm_z iA12 = 8 by decide +kernel]
  refine g_dup dX0_init_62 (by decide) ?_
  refine g_callIN (as := []) (S := [(2, 8), (2, 1)]) dX0_init_63 kX3_init rfl rfl rfl q283 q284 rfl rfl (by omega) (by decide) (by decide) (by decide) (Nat.le_of_ble_eq_true rfl) ((zX3_init (d := 0) (μ := iA13) (x := 8) (by decide)).mono fun o m q => ?_)
  obtain ⟨rfl, e⟩ := q
  have e : m = iA13 := e
  subst e
  refine rk_goV (A := True) (B := fun _ => False) (Or.inl ⟨rfl, trivial⟩) (fun _ => ?_) (fun a h => h.elim)
  refine g_putF dX0_init_66 fX0_44F rfl rfl (by decide) (by decide +kernel) (fun e => absurd e (by decide)) (p_r fun m e => ?_)
  have e : m = iA14 := e
  subst e
  refine g_aload_n (q := 0) dX0_init_69 rfl rfl ?_
  refine g_new dX0_init_70 ck3 (by decide) q281 q282 q122 (by decide) (by decide) (p_r fun m e => ?_)
  have e : m = iA15 := e
  subst e
  rw [show tm_z iA14 = 9 by decide +kernel]
  refine g_dup dX0_init_73 (by decide) ?_
  refine g_callIN (as := []) (S := [(2, 9), (2, 1)]) dX0_init_74 kX3_init rfl rfl rfl q283 q284 rfl rfl (by omega) (by decide) (by decide) (by decide) (Nat.le_of_ble_eq_true rfl) ((zX3_init (d := 0) (μ := iA15) (x := 9) (by decide)).mono fun o m q => ?_)
  obtain ⟨rfl, e⟩ := q
  have e : m = iA15 := e
  subst e
  refine rk_goV (A := True) (B := fun _ => False) (Or.inl ⟨rfl, trivial⟩) (fun _ => ?_) (fun a h => h.elim)
  refine g_putF dX0_init_77 fX0_47F rfl rfl (by decide) (by decide +kernel) (fun e => absurd e (by decide)) (p_r fun m e => ?_)
  have e : m = iA16 := e
  subst e
  refine g_aload_n (q := 0) dX0_init_80 rfl rfl ?_
  refine g_bipush dX0_init_81 ⟨by decide, by decide, rfl⟩ ?_
  refine g_newarray (k := 20) dX0_init_83 (by decide) rfl q354 (by decide) (by decide) (by decide) (p_r fun m e => ?_)
  have e : m = iA17 := e
  subst e
  rw [show tm_z iA16 = 10 by decide +kernel]
  refine g_putF dX0_init_85 fX0_50F rfl rfl (by decide) (by decide +kernel) (fun e => absurd e (by decide)) (p_r fun m e => ?_)
  have e : m = iA18 := e
  subst e
  refine g_aload_n (q := 0) dX0_init_88 rfl rfl ?_
  refine g_new dX0_init_89 ck4 (by decide) q307 q308 q123 (by decide) (by decide) (p_r fun m e => ?_)
  have e : m = iA19 := e
  subst e
  rw [show tm_z iA18 = 11 by decide +kernel]
  refine g_dup dX0_init_92 (by decide) ?_
  refine g_callIN (as := []) (S := [(2, 11), (2, 1)]) dX0_init_93 kX4_init rfl rfl rfl q309 q310 rfl rfl (by omega) (by decide) (by decide) (by decide) (Nat.le_of_ble_eq_true rfl) ((zX4_init (d := 0) (μ := iA19) (x := 11) (by decide) (by decide +kernel) (by decide +kernel)).mono fun o m q => ?_)
  obtain ⟨rfl, e⟩ := q
  have e : m = iA20 := e
  subst e
  refine rk_goV (A := True) (B := fun _ => False) (Or.inl ⟨rfl, trivial⟩) (fun _ => ?_) (fun a h => h.elim)
  refine g_put dX0_init_96 fX0_57 rfl (by decide) (by decide +kernel) (fun e => absurd e (by decide)) (p_r fun m e => ?_)
  have e : m = iA21 := e
  subst e
  refine g_aload_n (q := 0) dX0_init_99 rfl rfl ?_
  refine g_iconst dX0_init_100 (by decide) ?_
  refine g_put dX0_init_101 fX0_61 rfl (by decide) (by decide +kernel) (fun e => absurd e (by decide)) (p_r fun m e => ?_)
  have e : m = iA22 := e
  subst e
  refine g_aload_n (q := 0) dX0_init_104 rfl rfl ?_
  refine g_iconst dX0_init_105 (by decide) ?_
  refine g_put dX0_init_106 fX0_65 rfl (by decide) (by decide +kernel) (fun e => absurd e (by decide)) (p_r fun m e => ?_)
  have e : m = iA23 := e
  subst e
  refine g_aload_n (q := 0) dX0_init_109 rfl rfl ?_
  refine g_lconst1 dX0_init_110 ?_
  refine g_put dX0_init_111 fX0_68 rfl (by decide) (by decide +kernel) (fun e => absurd e (by decide)) (p_r fun m e => ?_)
  have e : m = iA24 := e
  subst e
  refine g_aload_n (q := 0) dX0_init_114 rfl rfl ?_
  refine g_bipush dX0_init_115 ⟨by decide, by decide, rfl⟩ ?_
  refine g_newarray (k := 20) dX0_init_117 (by decide) rfl q354 (by decide) (by decide) (by decide) (p_r fun m e => ?_)
  have e : m = iA25 := e
  subst e
  rw [show tm_z iA24 = 15 by decide +kernel]
  refine g_putF dX0_init_119 fX0_72F rfl rfl (by decide) (by decide +kernel) (fun e => absurd e (by decide)) (p_r fun m e => ?_)
  have e : m = iA26 := e
  subst e
  refine g_aload_n (q := 0) dX0_init_122 rfl rfl ?_
  refine g_bipush dX0_init_123 ⟨by decide, by decide, rfl⟩ ?_
  refine g_newarray (k := 20) dX0_init_125 (by decide) rfl q354 (by decide) (by decide) (by decide) (p_r fun m e => ?_)
  have e : m = iA27 := e
  subst e
  rw [show tm_z iA26 = 16 by decide +kernel]
  refine g_putF dX0_init_127 fX0_75F rfl rfl (by decide) (by decide +kernel) (fun e => absurd e (by decide)) (p_r fun m e => ?_)
  have e : m = iA28 := e
  subst e
  refine g_aload_n (q := 0) dX0_init_130 rfl rfl ?_
  refine g_bipush dX0_init_131 ⟨by decide, by decide, rfl⟩ ?_
  refine g_bipush dX0_init_133 ⟨by decide, by decide, rfl⟩ ?_
  refine g_multi (kO := 30) (kI := 20) (C := "[[I") dX0_init_135 (Or.inl ⟨rfl, rfl⟩) (by decide +kernel) q355 q356 q354 (by decide) (by decide) (by decide) (by decide) (p_r fun m e => ?_)
  have e : m = iA29 := e
  subst e
  rw [show tm_z iA28 = 17 by decide +kernel]
  refine g_putF dX0_init_139 fX0_80F rfl rfl (by decide) (by decide +kernel) (fun e => absurd e (by decide)) (p_r fun m e => ?_)
  have e : m = iA30 := e
  subst e
  refine g_aload_n (q := 0) dX0_init_142 rfl rfl ?_
  refine g_bipush dX0_init_143 ⟨by decide, by decide, rfl⟩ ?_
  refine g_bipush dX0_init_145 ⟨by decide, by decide, rfl⟩ ?_
  refine g_multi (kO := 30) (kI := 20) (C := "[[I") dX0_init_147 (Or.inl ⟨rfl, rfl⟩) (by decide +kernel) q355 q356 q354 (by decide) (by decide) (by decide) (by decide) (p_r fun m e => ?_)
  have e : m = iA31 := e
  subst e
  rw [show tm_z iA30 = 27 by decide +kernel]
  refine g_putF dX0_init_151 fX0_83F rfl rfl (by decide) (by decide +kernel) (fun e => absurd e (by decide)) (p_r fun m e => ?_)
  have e : m = iA32 := e
  subst e
  refine g_aload_n (q := 0) dX0_init_154 rfl rfl ?_
  refine g_iconst dX0_init_155 (by decide) ?_
  refine g_newarray (k := 20) dX0_init_156 (by decide) rfl q354 (by decide) (by decide) (by decide) (p_r fun m e => ?_)
  have e : m = iA33 := e
  subst e
  rw [show tm_z iA32 = 37 by decide +kernel]
  refine g_putF dX0_init_158 fX0_86F rfl rfl (by decide) (by decide +kernel) (fun e => absurd e (by decide)) (p_r fun m e => ?_)
  have e : m = iA34 := e
  subst e
  refine g_aload_n (q := 0) dX0_init_161 rfl rfl ?_
  refine g_iconst dX0_init_162 (by decide) ?_
  refine g_newarray (k := 20) dX0_init_163 (by decide) rfl q354 (by decide) (by decide) (by decide) (p_r fun m e => ?_)
  have e : m = iA35 := e
  subst e
  rw [show tm_z iA34 = 38 by decide +kernel]
  refine g_putF dX0_init_165 fX0_89F rfl rfl (by decide) (by decide +kernel) (fun e => absurd e (by decide)) (p_r fun m e => ?_)
  have e : m = iA36 := e
  subst e
  refine g_aload_n (q := 0) dX0_init_168 rfl rfl ?_
  refine g_iconst dX0_init_169 (by decide) ?_
  refine g_newarray (k := 20) dX0_init_170 (by decide) rfl q354 (by decide) (by decide) (by decide) (p_r fun m e => ?_)
  have e : m = iA37 := e
  subst e
  rw [show tm_z iA36 = 39 by decide +kernel]
  refine g_putF dX0_init_172 fX0_92F rfl rfl (by decide) (by decide +kernel) (fun e => absurd e (by decide)) (p_r fun m e => ?_)
  have e : m = iA38 := e
  subst e
  refine g_aload_n (q := 0) dX0_init_175 rfl rfl ?_
  refine g_iconst dX0_init_176 (by decide) ?_
  refine g_newarray (k := 20) dX0_init_177 (by decide) rfl q354 (by decide) (by decide) (by decide) (p_r fun m e => ?_)
  have e : m = iA39 := e
  subst e
  rw [show tm_z iA38 = 40 by decide +kernel]
  refine g_putF dX0_init_179 fX0_95F rfl rfl (by decide) (by decide +kernel) (fun e => absurd e (by decide)) (p_r fun m e => ?_)
  have e : m = iA40 := e
  subst e
  refine g_aload_n (q := 0) dX0_init_182 rfl rfl ?_
  refine g_iconst dX0_init_183 (by decide) ?_
  refine g_iconst dX0_init_184 (by decide) ?_
  refine g_multi (kO := 30) (kI := 20) (C := "[[I") dX0_init_185 (Or.inl ⟨rfl, rfl⟩) (by decide +kernel) q355 q356 q354 (by decide) (by decide) (by decide) (by decide) (p_r fun m e => ?_)
  have e : m = iA41 := e
  subst e
  rw [show tm_z iA40 = 41 by decide +kernel]
  refine g_putF dX0_init_189 fX0_98F rfl rfl (by decide) (by decide +kernel) (fun e => absurd e (by decide)) (p_r fun m e => ?_)
  have e : m = iA42 := e
  subst e
  refine g_aload_n (q := 0) dX0_init_192 rfl rfl ?_
  refine g_iconst dX0_init_193 (by decide) ?_
  refine g_newarray (k := 20) dX0_init_194 (by decide) rfl q354 (by decide) (by decide) (by decide) (p_r fun m e => ?_)
  have e : m = iA43 := e
  subst e
  rw [show tm_z iA42 = 44 by decide +kernel]
  refine g_putF dX0_init_196 fX0_101F rfl rfl (by decide) (by decide +kernel) (fun e => absurd e (by decide)) (p_r fun m e => ?_)
  have e : m = iA44 := e
  subst e
  refine g_aload_n (q := 0) dX0_init_199 rfl rfl ?_
  refine g_bipush dX0_init_200 ⟨by decide, by decide, rfl⟩ ?_
  refine g_newarray (k := 24) dX0_init_202 (by decide) rfl q374 (by decide) (by decide) (by decide) (p_r fun m e => ?_)
  have e : m = iA45 := e
  subst e
  rw [show tm_z iA44 = 45 by decide +kernel]
  refine g_putF dX0_init_204 fX0_104F rfl rfl (by decide) (by decide +kernel) (fun e => absurd e (by decide)) (p_r fun m e => ?_)
  have e : m = iA46 := e
  subst e
  refine g_aload_n (q := 0) dX0_init_207 rfl rfl ?_
  refine g_bipush dX0_init_208 ⟨by decide, by decide, rfl⟩ ?_
  refine g_newarray (k := 20) dX0_init_210 (by decide) rfl q354 (by decide) (by decide) (by decide) (p_r fun m e => ?_)
  have e : m = iA47 := e
  subst e
  rw [show tm_z iA46 = 46 by decide +kernel]
  refine g_putF dX0_init_212 fX0_108F rfl rfl (by decide) (by decide +kernel) (fun e => absurd e (by decide)) (p_r fun m e => ?_)
  have e : m = iA48 := e
  subst e
  refine g_aload_n (q := 0) dX0_init_215 rfl rfl ?_
  refine g_bipush dX0_init_216 ⟨by decide, by decide, rfl⟩ ?_
  refine g_newarray (k := 20) dX0_init_218 (by decide) rfl q354 (by decide) (by decide) (by decide) (p_r fun m e => ?_)
  have e : m = iA49 := e
  subst e
  rw [show tm_z iA48 = 47 by decide +kernel]
  refine g_putF dX0_init_220 fX0_111F rfl rfl (by decide) (by decide +kernel) (fun e => absurd e (by decide)) (p_r fun m e => ?_)
  have e : m = iA50 := e
  subst e
  refine g_aload_n (q := 0) dX0_init_223 rfl rfl ?_
  refine g_bipush dX0_init_224 ⟨by decide, by decide, rfl⟩ ?_
  refine g_newarray (k := 21) dX0_init_226 (by decide) rfl q375 (by decide) (by decide) (by decide) (p_r fun m e => ?_)
  have e : m = iA51 := e
  subst e
  rw [show tm_z iA50 = 48 by decide +kernel]
  refine g_putF dX0_init_228 fX0_114F rfl rfl (by decide) (by decide +kernel) (fun e => absurd e (by decide)) (p_r fun m e => ?_)
  have e : m = iA52 := e
  subst e
  refine g_aload_n (q := 0) dX0_init_231 rfl rfl ?_
  refine g_bipush dX0_init_232 ⟨by decide, by decide, rfl⟩ ?_
  refine g_newarray (k := 21) dX0_init_234 (by decide) rfl q375 (by decide) (by decide) (by decide) (p_r fun m e => ?_)
  have e : m = iA53 := e
  subst e
  rw [show tm_z iA52 = 49 by decide +kernel]
  refine g_putF dX0_init_236 fX0_118F rfl rfl (by decide) (by decide +kernel) (fun e => absurd e (by decide)) (p_r fun m e => ?_)
  have e : m = iA54 := e
  subst e
  refine g_aload_n (q := 0) dX0_init_239 rfl rfl ?_
  refine g_iconst dX0_init_240 (by decide) ?_
  refine g_anew (k := 29) dX0_init_241 (by decide) rfl q281 q357 (by decide) (by decide) (by decide) (p_r fun m e => ?_)
  have e : m = iA55 := e
  subst e
  rw [show tm_z iA54 = 50 by decide +kernel]
  refine g_dup dX0_init_244 (by decide) ?_
  refine g_iconst dX0_init_245 (by decide) ?_
  refine g_aload_n (q := 0) dX0_init_246 rfl rfl ?_
  refine g_getC (x := 7) 2 dX0_init_247 fX0_40 rfl (by decide) (by decide +kernel) (by decide +kernel) ?_
  refine g_aastore dX0_init_250 ta_29_3 (by decide) (by decide +kernel) (by decide) (by decide +kernel) (by decide) (by decide +kernel) (p_r fun m e => ?_)
  have e : m = iA56 := e
  subst e
  refine g_dup dX0_init_251 (by decide) ?_
  refine g_iconst dX0_init_252 (by decide) ?_
  refine g_aload_n (q := 0) dX0_init_253 rfl rfl ?_
  refine g_getC (x := 8) 2 dX0_init_254 fX0_44 rfl (by decide) (by decide +kernel) (by decide +kernel) ?_
  refine g_aastore dX0_init_257 ta_29_3 (by decide) (by decide +kernel) (by decide) (by decide +kernel) (by decide) (by decide +kernel) (p_r fun m e => ?_)
  have e : m = iA57 := e
  subst e
  refine g_dup dX0_init_258 (by decide) ?_
  refine g_iconst dX0_init_259 (by decide) ?_
  refine g_aload_n (q := 0) dX0_init_260 rfl rfl ?_
  refine g_getC (x := 9) 2 dX0_init_261 fX0_47 rfl (by decide) (by decide +kernel) (by decide +kernel) ?_
  refine g_aastore dX0_init_264 ta_29_3 (by decide) (by decide +kernel) (by decide) (by decide +kernel) (by decide) (by decide +kernel) (p_r fun m e => ?_)
  have e : m = iA58 := e
  subst e
  refine g_putF dX0_init_265 fX0_121F rfl rfl (by decide) (by decide +kernel) (fun e => absurd e (by decide)) (p_r fun m e => ?_)
  have e : m = iA59 := e
  subst e
  refine g_aload_n (q := 0) dX0_init_268 rfl rfl ?_
  refine g_iconst dX0_init_269 (by decide) ?_
  refine g_newarray (k := 20) dX0_init_270 (by decide) rfl q354 (by decide) (by decide) (by decide) (p_r fun m e => ?_)
  have e : m = iA60 := e
  subst e
  rw [show tm_z iA59 = 51 by decide +kernel]
  refine g_putF dX0_init_272 fX0_125F rfl rfl (by decide) (by decide +kernel) (fun e => absurd e (by decide)) (p_r fun m e => ?_)
  have e : m = iA61 := e
  subst e
  refine g_aload_n (q := 0) dX0_init_275 rfl rfl ?_
  refine g_iconst dX0_init_276 (by decide) ?_
  refine g_iconst dX0_init_277 (by decide) ?_
  refine g_multi (kO := 31) (kI := 21) (C := "[[J") dX0_init_278 (Or.inr ⟨rfl, rfl⟩) (by decide +kernel) q358 q359 q375 (by decide) (by decide) (by decide) (by decide) (p_r fun m e => ?_)
  have e : m = iA62 := e
  subst e
  rw [show tm_z iA61 = 52 by decide +kernel]
  refine g_putF dX0_init_282 fX0_130F rfl rfl (by decide) (by decide +kernel) (fun e => absurd e (by decide)) (p_r fun m e => ?_)
  have e : m = iA63 := e
  subst e
  refine g_aload_n (q := 0) dX0_init_285 rfl rfl ?_
  refine g_iconst dX0_init_286 (by decide) ?_
  refine g_newarray (k := 21) dX0_init_287 (by decide) rfl q375 (by decide) (by decide) (by decide) (p_r fun m e => ?_)
  have e : m = iA64 := e
  subst e
  rw [show tm_z iA63 = 56 by decide +kernel]
  refine g_putF dX0_init_289 fX0_133F rfl rfl (by decide) (by decide +kernel) (fun e => absurd e (by decide)) (p_r fun m e => ?_)
  have e : m = iA65 := e
  subst e
  refine g_aload_n (q := 0) dX0_init_292 rfl rfl ?_
  refine g_iconst dX0_init_293 (by decide) ?_
  refine g_newarray (k := 21) dX0_init_294 (by decide) rfl q375 (by decide) (by decide) (by decide) (p_r fun m e => ?_)
  have e : m = iA66 := e
  subst e
  rw [show tm_z iA65 = 57 by decide +kernel]
  refine g_putF dX0_init_296 fX0_136F rfl rfl (by decide) (by decide +kernel) (fun e => absurd e (by decide)) (p_r fun m e => ?_)
  have e : m = iA67 := e
  subst e
  refine g_aload_n (q := 0) dX0_init_299 rfl rfl ?_
  refine g_iconst dX0_init_300 (by decide) ?_
  refine g_newarray (k := 21) dX0_init_301 (by decide) rfl q375 (by decide) (by decide) (by decide) (p_r fun m e => ?_)
  have e : m = iA68 := e
  subst e
  rw [show tm_z iA67 = 58 by decide +kernel]
  refine g_putF dX0_init_303 fX0_139F rfl rfl (by decide) (by decide +kernel) (fun e => absurd e (by decide)) (p_r fun m e => ?_)
  have e : m = iA69 := e
  subst e
  refine g_aload_n (q := 0) dX0_init_306 rfl rfl ?_
  refine g_iconst dX0_init_307 (by decide) ?_
  refine g_newarray (k := 21) dX0_init_308 (by decide) rfl q375 (by decide) (by decide) (by decide) (p_r fun m e => ?_)
  have e : m = iA70 := e
  subst e
  rw [show tm_z iA69 = 59 by decide +kernel]
  refine g_putF dX0_init_310 fX0_142F rfl rfl (by decide) (by decide +kernel) (fun e => absurd e (by decide)) (p_r fun m e => ?_)
  have e : m = iA71 := e
  subst e
  refine g_aload_n (q := 0) dX0_init_313 rfl rfl ?_
  refine g_iconst dX0_init_314 (by decide) ?_
  refine g_newarray (k := 21) dX0_init_315 (by decide) rfl q375 (by decide) (by decide) (by decide) (p_r fun m e => ?_)
  have e : m = iA72 := e
  subst e
  rw [show tm_z iA71 = 60 by decide +kernel]
  refine g_putF dX0_init_317 fX0_145F rfl rfl (by decide) (by decide +kernel) (fun e => absurd e (by decide)) (p_r fun m e => ?_)
  have e : m = iA73 := e
  subst e
  refine g_iconst dX0_init_320 (by decide) ?_
  refine g_istore_n (L' := [(0, 2, 1), (1, 0, 0)]) dX0_init_321 rfl (by decide) [1, 0] rfl ?_
  refine g_iload_n (q := 1) dX0_init_322 rfl rfl ?_
  refine g_iconst dX0_init_323 (by decide) ?_
  refine g_icmp_ge (tgt := 346) dX0_init_324 (by decide +kernel) (fun c => absurd c (by decide)) (fun _ => ?_)
  refine g_aload_n (q := 0) dX0_init_327 rfl rfl ?_
  refine g_getC (x := 2) 2 dX0_init_328 fX0_11 rfl (by decide) (by decide +kernel) (by decide +kernel) ?_
  refine g_iload_n (q := 1) dX0_init_331 rfl rfl ?_
  refine g_new dX0_init_332 ck5 (by decide) q150 q360 q124 (by decide) (by decide) (p_r fun m e => ?_)
  have e : m = iA74 := e
  subst e
  rw [show tm_z iA73 = 61 by decide +kernel]
  refine g_dup dX0_init_335 (by decide) ?_
  refine g_callIN (as := []) (S := [(2, 61), (0, 0), (2, 2)]) dX0_init_336 kX5_init rfl rfl rfl q361 q362 rfl rfl (by omega) (by decide) (by decide) (by decide) (Nat.le_of_ble_eq_true rfl) ((zX5_init (d := 0) (μ := iA74) (x := 61) (by decide)).mono fun o m q => ?_)
  obtain ⟨rfl, e⟩ := q
  have e : m = iA74 := e
  subst e
  refine rk_goV (A := True) (B := fun _ => False) (Or.inl ⟨rfl, trivial⟩) (fun _ => ?_) (fun a h => h.elim)
  refine g_aastore dX0_init_339 ta_25_5 (by decide) (by decide +kernel) (by decide) (by decide +kernel) (by decide) (by decide +kernel) (p_r fun m e => ?_)
  have e : m = iA75 := e
  subst e
  refine g_iinc (q := 1) (L' := [(0, 2, 1), (1, 0, 1)]) dX0_init_340 (by decide) rfl [1, 0] (by rw [w32_id (by decide) (by decide)]; rfl) ?_
  refine g_goto (tgt := 322) dX0_init_343 (by decide +kernel) ?_
  refine g_iload_n (q := 1) dX0_init_322 rfl rfl ?_
  refine g_iconst dX0_init_323 (by decide) ?_
  refine g_icmp_ge (tgt := 346) dX0_init_324 (by decide +kernel) (fun c => absurd c (by decide)) (fun _ => ?_)
  refine g_aload_n (q := 0) dX0_init_327 rfl rfl ?_
  refine g_getC (x := 2) 2 dX0_init_328 fX0_11 rfl (by decide) (by decide +kernel) (by decide +kernel) ?_
  refine g_iload_n (q := 1) dX0_init_331 rfl rfl ?_
  refine g_new dX0_init_332 ck5 (by decide) q150 q360 q124 (by decide) (by decide) (p_r fun m e => ?_)
  have e : m = iA76 := e
  subst e
  rw [show tm_z iA75 = 62 by decide +kernel]
  refine g_dup dX0_init_335 (by decide) ?_
  refine g_callIN (as := []) (S := [(2, 62), (0, 1), (2, 2)]) dX0_init_336 kX5_init rfl rfl rfl q361 q362 rfl rfl (by omega) (by decide) (by decide) (by decide) (Nat.le_of_ble_eq_true rfl) ((zX5_init (d := 0) (μ := iA76) (x := 62) (by decide)).mono fun o m q => ?_)
  obtain ⟨rfl, e⟩ := q
  have e : m = iA76 := e
  subst e
  refine rk_goV (A := True) (B := fun _ => False) (Or.inl ⟨rfl, trivial⟩) (fun _ => ?_) (fun a h => h.elim)
  refine g_aastore dX0_init_339 ta_25_5 (by decide) (by decide +kernel) (by decide) (by decide +kernel) (by decide) (by decide +kernel) (p_r fun m e => ?_)
  have e : m = iA77 := e
  subst e
  refine g_iinc (q := 1) (L' := [(0, 2, 1), (1, 0, 2)]) dX0_init_340 (by decide) rfl [1, 0] (by rw [w32_id (by decide) (by decide)]; rfl) ?_
  refine g_goto (tgt := 322) dX0_init_343 (by decide +kernel) ?_
  refine g_iload_n (q := 1) dX0_init_322 rfl rfl ?_
  refine g_iconst dX0_init_323 (by decide) ?_
  refine g_icmp_ge (tgt := 346) dX0_init_324 (by decide +kernel) (fun c => absurd c (by decide)) (fun _ => ?_)
  refine g_aload_n (q := 0) dX0_init_327 rfl rfl ?_
  refine g_getC (x := 2) 2 dX0_init_328 fX0_11 rfl (by decide) (by decide +kernel) (by decide +kernel) ?_
  refine g_iload_n (q := 1) dX0_init_331 rfl rfl ?_
  refine g_new dX0_init_332 ck5 (by decide) q150 q360 q124 (by decide) (by decide) (p_r fun m e => ?_)
  have e : m = iA78 := e
  subst e
  rw [show tm_z iA77 = 63 by decide +kernel]
  refine g_dup dX0_init_335 (by decide) ?_
  refine g_callIN (as := []) (S := [(2, 63), (0, 2), (2, 2)]) dX0_init_336 kX5_init rfl rfl rfl q361 q362 rfl rfl (by omega) (by decide) (by decide) (by decide) (Nat.le_of_ble_eq_true rfl) ((zX5_init (d := 0) (μ := iA78) (x := 63) (by decide)).mono fun o m q => ?_)
  obtain ⟨rfl, e⟩ := q
  have e : m = iA78 := e
  subst e
  refine rk_goV (A := True) (B := fun _ => False) (Or.inl ⟨rfl, trivial⟩) (fun _ => ?_) (fun a h => h.elim)
  refine g_aastore dX0_init_339 ta_25_5 (by decide) (by decide +kernel) (by decide) (by decide +kernel) (by decide) (by decide +kernel) (p_r fun m e => ?_)
  have e : m = iA79 := e
  subst e
  refine g_iinc (q := 1) (L' := [(0, 2, 1), (1, 0, 3)]) dX0_init_340 (by decide) rfl [1, 0] (by rw [w32_id (by decide) (by decide)]; rfl) ?_
  refine g_goto (tgt := 322) dX0_init_343 (by decide +kernel) ?_
  refine g_iload_n (q := 1) dX0_init_322 rfl rfl ?_
  refine g_iconst dX0_init_323 (by decide) ?_
  refine g_icmp_ge (tgt := 346) dX0_init_324 (by decide +kernel) (fun c => absurd c (by decide)) (fun _ => ?_)
  refine g_aload_n (q := 0) dX0_init_327 rfl rfl ?_
  refine g_getC (x := 2) 2 dX0_init_328 fX0_11 rfl (by decide) (by decide +kernel) (by decide +kernel) ?_
  refine g_iload_n (q := 1) dX0_init_331 rfl rfl ?_
  refine g_new dX0_init_332 ck5 (by decide) q150 q360 q124 (by decide) (by decide) (p_r fun m e => ?_)
  have e : m = iA80 := e
  subst e
  rw [show tm_z iA79 = 64 by decide +kernel]
  refine g_dup dX0_init_335 (by decide) ?_
  refine g_callIN (as := []) (S := [(2, 64), (0, 3), (2, 2)]) dX0_init_336 kX5_init rfl rfl rfl q361 q362 rfl rfl (by omega) (by decide) (by decide) (by decide) (Nat.le_of_ble_eq_true rfl) ((zX5_init (d := 0) (μ := iA80) (x := 64) (by decide)).mono fun o m q => ?_)
  obtain ⟨rfl, e⟩ := q
  have e : m = iA80 := e
  subst e
  refine rk_goV (A := True) (B := fun _ => False) (Or.inl ⟨rfl, trivial⟩) (fun _ => ?_) (fun a h => h.elim)
  refine g_aastore dX0_init_339 ta_25_5 (by decide) (by decide +kernel) (by decide) (by decide +kernel) (by decide) (by decide +kernel) (p_r fun m e => ?_)
  have e : m = iA81 := e
  subst e
  refine g_iinc (q := 1) (L' := [(0, 2, 1), (1, 0, 4)]) dX0_init_340 (by decide) rfl [1, 0] (by rw [w32_id (by decide) (by decide)]; rfl) ?_
  refine g_goto (tgt := 322) dX0_init_343 (by decide +kernel) ?_
  refine g_iload_n (q := 1) dX0_init_322 rfl rfl ?_
  refine g_iconst dX0_init_323 (by decide) ?_
  refine g_icmp_ge (tgt := 346) dX0_init_324 (by decide +kernel) (fun _ => ?_) (fun c => absurd c (by decide))
  exact g_vret dX0_init_346 rfl (by decide) (by decide) ⟨rfl, rfl⟩
def iB0 : tm_M := tm_a iA81 6 79
def iB1 : tm_M := tm_w iB0 65 3 1
def iB2 : tm_M := tm_a iB1 20 4
def iB3 : tm_M := tm_w iB2 65 4 66
def iB4 : tm_M := tm_a iB3 20 4
def iB5 : tm_M := tm_w iB4 65 5 67
def iB6 : tm_M := tm_a iB5 21 256
def iB7 : tm_M := tm_w iB6 65 6 68
def iB8 : tm_M := tm_a iB7 22 500
def iB9 : tm_M := tm_w iB8 65 7 69
def iB10 : tm_M := tm_w iB9 65 10 (-1)
def iB11 : tm_M := tm_w iB10 65 11 (-1)
def iB12 : tm_M := tm_w iB11 65 24 1
def iB13 : tm_M := tm_a iB12 20 24
def iB14 : tm_M := tm_w iB13 65 31 70
def iB15 : tm_M := tm_a iB14 20 24
def iB16 : tm_M := tm_w iB15 65 32 71
def iB17 : tm_M := tm_a iB16 20 8
def iB18 : tm_M := tm_w iB17 65 33 72
def iB19 : tm_M := tm_a iB18 20 8
def iB20 : tm_M := tm_w iB19 65 34 73
def iB21 : tm_M := tm_a iB20 20 32
def iB22 : tm_M := tm_w iB21 65 35 74
def iB23 : tm_M := tm_a iB22 20 32
def iB24 : tm_M := tm_w iB23 65 36 75
def iB25 : tm_M := tm_a iB24 20 12
def iB26 : tm_M := tm_w iB25 65 37 76
def iB27 : tm_M := tm_a iB26 20 12
def iB28 : tm_M := tm_w iB27 65 38 77
def iB29 : tm_M := tm_a iB28 20 12
def iB30 : tm_M := tm_w iB29 65 39 78
def iB31 : tm_M := tm_a iB30 20 12
def iB32 : tm_M := tm_w iB31 65 40 79
def iB33 : tm_M := tm_a iB32 24 12
def iB34 : tm_M := tm_w iB33 65 41 80
def iB35 : tm_M := tm_a iB34 21 8
def iB36 : tm_M := tm_w iB35 65 42 81
def iB37 : tm_M := tm_a iB36 20 12
def iB38 : tm_M := tm_w iB37 65 44 82
def iB39 : tm_M := tm_a iB38 20 288
def iB40 : tm_M := tm_w iB39 65 45 83
def iB41 : tm_M := tm_a iB40 24 12
def iB42 : tm_M := tm_w iB41 65 46 84
def iB43 : tm_M := tm_a iB42 20 3
def iB44 : tm_M := tm_w iB43 65 47 85
def iB45 : tm_M := tm_a iB44 20 3
def iB46 : tm_M := tm_w iB45 65 48 86
def iB47 : tm_M := tm_a iB46 20 3
def iB48 : tm_M := tm_w iB47 65 49 87
def iB49 : tm_M := tm_a iB48 20 8
def iB50 : tm_M := tm_w iB49 65 50 88
def iB51 : tm_M := tm_a iB50 20 8
def iB52 : tm_M := tm_w iB51 65 51 89
def iB53 : tm_M := tm_a iB52 20 6
def iB54 : tm_M := tm_w iB53 65 55 90
def iB55 : tm_M := tm_a iB54 20 5
def iB56 : tm_M := tm_w iB55 65 56 91
def iB57 : tm_M := tm_a iB56 20 6
def iB58 : tm_M := tm_w iB57 65 57 92
def iB59 : tm_M := tm_a iB58 21 3
def iB60 : tm_M := tm_w iB59 65 58 93
def iB61 : tm_M := tm_w iB60 65 59 1
def iB62 : tm_M := tm_a iB61 24 64
def iB63 : tm_M := tm_w iB62 65 62 94
def iB64 : tm_M := tm_a iB63 24 64
def iB65 : tm_M := tm_w iB64 65 65 95
def iB66 : tm_M := tm_a iB65 20 8
def iB67 : tm_M := tm_w iB66 65 66 96
def iB68 : tm_M := tm_a iB67 21 64
def iB69 : tm_M := tm_w iB68 65 67 97
def iB70 : tm_M := tm_a iB69 21 64
def iB71 : tm_M := tm_w iB70 65 68 98
def iB72 : tm_M := tm_a iB71 20 3
def iB73 : tm_M := tm_w iB72 65 69 99
def iB74 : tm_M := tm_a iB73 20 3
def iB75 : tm_M := tm_w iB74 65 70 100
def iB76 : tm_M := tm_a iB75 20 9
def iB77 : tm_M := tm_w iB76 65 71 101
def iB78 : tm_M := tm_a iB77 21 3
def iB79 : tm_M := tm_w iB78 65 74 102
def iB80 : tm_M := tm_a iB79 21 6
def iB81 : tm_M := tm_w iB80 65 75 103
def iB82 : tm_M := tm_w iB81 67 0 (-1)
def iB83 : tm_M := tm_w iB82 67 1 (-1)
def iB84 : tm_M := tm_w iB83 67 2 (-1)
def iB85 : tm_M := tm_w iB84 67 3 (-1)
theorem zX6_init {d : Nat} : tC mX6_init d 38 1605 [(2, 65)] iB0 (q_m iB85) := by
  refine tC_of rfl (Nat.le_of_ble_eq_true rfl) ?_
  refine g_aload_n (q := 0) dX6_init_0 rfl rfl ?_
  refine g_objInit dX6_init_1 q1189 q148 q149 (by decide) (Nat.le_of_ble_eq_true rfl) ?_
  refine g_aload_n (q := 0) dX6_init_4 rfl rfl ?_
  refine g_lconst1 dX6_init_5 ?_
  refine g_put dX6_init_6 fX6_7 rfl (by decide) (by decide +kernel) (fun e => absurd e (by decide)) (p_r fun m e => ?_)
  have e : m = iB1 := e
  subst e
  refine g_aload_n (q := 0) dX6_init_9 rfl rfl ?_
  refine g_iconst dX6_init_10 (by decide) ?_
  refine g_newarray (k := 20) dX6_init_11 (by decide) rfl q354 (by decide) (by decide) (by decide) (p_r fun m e => ?_)
  have e : m = iB2 := e
  subst e
  rw [show tm_z iB1 = 66 by decide +kernel]
  refine g_putF dX6_init_13 fX6_13F rfl rfl (by decide) (by decide +kernel) (fun e => absurd e (by decide)) (p_r fun m e => ?_)
  have e : m = iB3 := e
  subst e
  refine g_aload_n (q := 0) dX6_init_16 rfl rfl ?_
  refine g_iconst dX6_init_17 (by decide) ?_
  refine g_newarray (k := 20) dX6_init_18 (by decide) rfl q354 (by decide) (by decide) (by decide) (p_r fun m e => ?_)
  have e : m = iB4 := e
  subst e
  rw [show tm_z iB3 = 67 by decide +kernel]
  refine g_putF dX6_init_20 fX6_17F rfl rfl (by decide) (by decide +kernel) (fun e => absurd e (by decide)) (p_r fun m e => ?_)
  have e : m = iB5 := e
  subst e
  refine g_aload_n (q := 0) dX6_init_23 rfl rfl ?_
  refine g_sipush dX6_init_24 ⟨by decide, by decide, rfl⟩ ?_
  refine g_newarray (k := 21) dX6_init_27 (by decide) rfl q375 (by decide) (by decide) (by decide) (p_r fun m e => ?_)
  have e : m = iB6 := e
  subst e
  rw [show tm_z iB5 = 68 by decide +kernel]
  refine g_putF dX6_init_29 fX6_20F rfl rfl (by decide) (by decide +kernel) (fun e => absurd e (by decide)) (p_r fun m e => ?_)
  have e : m = iB7 := e
  subst e
  refine g_aload_n (q := 0) dX6_init_32 rfl rfl ?_
  refine g_sipush dX6_init_33 ⟨by decide, by decide, rfl⟩ ?_
  refine g_newarray (k := 22) dX6_init_36 (by decide) rfl q278 (by decide) (by decide) (by decide) (p_r fun m e => ?_)
  have e : m = iB8 := e
  subst e
  rw [show tm_z iB7 = 69 by decide +kernel]
  refine g_putF dX6_init_38 fX6_24F rfl rfl (by decide) (by decide +kernel) (fun e => absurd e (by decide)) (p_r fun m e => ?_)
  have e : m = iB9 := e
  subst e
  refine g_aload_n (q := 0) dX6_init_41 rfl rfl ?_
  refine g_iconst dX6_init_42 (by decide) ?_
  refine g_put dX6_init_43 fX6_28 rfl (by decide) (by decide +kernel) (fun e => absurd e (by decide)) (p_r fun m e => ?_)
  have e : m = iB10 := e
  subst e
  refine g_aload_n (q := 0) dX6_init_46 rfl rfl ?_
  refine g_iconst dX6_init_47 (by decide) ?_
  refine g_put dX6_init_48 fX6_32 rfl (by decide) (by decide +kernel) (fun e => absurd e (by decide)) (p_r fun m e => ?_)
  have e : m = iB11 := e
  subst e
  refine g_aload_n (q := 0) dX6_init_51 rfl rfl ?_
  refine g_iconst dX6_init_52 (by decide) ?_
  refine g_put dX6_init_53 fX6_35 rfl (by decide) (by decide +kernel) (fun e => absurd e (by decide)) (p_r fun m e => ?_)
  have e : m = iB12 := e
  subst e
  refine g_aload_n (q := 0) dX6_init_56 rfl rfl ?_
  refine g_bipush dX6_init_57 ⟨by decide, by decide, rfl⟩ ?_
  refine g_newarray (k := 20) dX6_init_59 (by decide) rfl q354 (by decide) (by decide) (by decide) (p_r fun m e => ?_)
  have e : m = iB13 := e
  subst e
  rw [show tm_z iB12 = 70 by decide +kernel]
  refine g_putF dX6_init_61 fX6_38F rfl rfl (by decide) (by decide +kernel) (fun e => absurd e (by decide)) (p_r fun m e => ?_)
  have e : m = iB14 := e
  subst e
  refine g_aload_n (q := 0) dX6_init_64 rfl rfl ?_
  refine g_bipush dX6_init_65 ⟨by decide, by decide, rfl⟩ ?_
  refine g_newarray (k := 20) dX6_init_67 (by decide) rfl q354 (by decide) (by decide) (by decide) (p_r fun m e => ?_)
  have e : m = iB15 := e
  subst e
  rw [show tm_z iB14 = 71 by decide +kernel]
  refine g_putF dX6_init_69 fX6_41F rfl rfl (by decide) (by decide +kernel) (fun e => absurd e (by decide)) (p_r fun m e => ?_)
  have e : m = iB16 := e
  subst e
  refine g_aload_n (q := 0) dX6_init_72 rfl rfl ?_
  refine g_bipush dX6_init_73 ⟨by decide, by decide, rfl⟩ ?_
  refine g_newarray (k := 20) dX6_init_75 (by decide) rfl q354 (by decide) (by decide) (by decide) (p_r fun m e => ?_)
  have e : m = iB17 := e
  subst e
  rw [show tm_z iB16 = 72 by decide +kernel]
  refine g_putF dX6_init_77 fX6_44F rfl rfl (by decide) (by decide +kernel) (fun e => absurd e (by decide)) (p_r fun m e => ?_)
  have e : m = iB18 := e
  subst e
  refine g_aload_n (q := 0) dX6_init_80 rfl rfl ?_
  refine g_bipush dX6_init_81 ⟨by decide, by decide, rfl⟩ ?_
  refine g_newarray (k := 20) dX6_init_83 (by decide) rfl q354 (by decide) (by decide) (by decide) (p_r fun m e => ?_)
  have e : m = iB19 := e
  subst e
  rw [show tm_z iB18 = 73 by decide +kernel]
  refine g_putF dX6_init_85 fX6_47F rfl rfl (by decide) (by decide +kernel) (fun e => absurd e (by decide)) (p_r fun m e => ?_)
  have e : m = iB20 := e
  subst e
  refine g_aload_n (q := 0) dX6_init_88 rfl rfl ?_
  refine g_bipush dX6_init_89 ⟨by decide, by decide, rfl⟩ ?_
  refine g_newarray (k := 20) dX6_init_91 (by decide) rfl q354 (by decide) (by decide) (by decide) (p_r fun m e => ?_)
  have e : m = iB21 := e
  subst e
  rw [show tm_z iB20 = 74 by decide +kernel]
  refine g_putF dX6_init_93 fX6_50F rfl rfl (by decide) (by decide +kernel) (fun e => absurd e (by decide)) (p_r fun m e => ?_)
  have e : m = iB22 := e
  subst e
  refine g_aload_n (q := 0) dX6_init_96 rfl rfl ?_
  refine g_bipush dX6_init_97 ⟨by decide, by decide, rfl⟩ ?_
  refine g_newarray (k := 20) dX6_init_99 (by decide) rfl q354 (by decide) (by decide) (by decide) (p_r fun m e => ?_)
  have e : m = iB23 := e
  subst e
  rw [show tm_z iB22 = 75 by decide +kernel]
  refine g_putF dX6_init_101 fX6_53F rfl rfl (by decide) (by decide +kernel) (fun e => absurd e (by decide)) (p_r fun m e => ?_)
  have e : m = iB24 := e
  subst e
  refine g_aload_n (q := 0) dX6_init_104 rfl rfl ?_
  refine g_bipush dX6_init_105 ⟨by decide, by decide, rfl⟩ ?_
  refine g_newarray (k := 20) dX6_init_107 (by decide) rfl q354 (by decide) (by decide) (by decide) (p_r fun m e => ?_)
  have e : m = iB25 := e
  subst e
  rw [show tm_z iB24 = 76 by decide +kernel]
  refine g_putF dX6_init_109 fX6_56F rfl rfl (by decide) (by decide +kernel) (fun e => absurd e (by decide)) (p_r fun m e => ?_)
  have e : m = iB26 := e
  subst e
  refine g_aload_n (q := 0) dX6_init_112 rfl rfl ?_
  refine g_bipush dX6_init_113 ⟨by decide, by decide, rfl⟩ ?_
  refine g_newarray (k := 20) dX6_init_115 (by decide) rfl q354 (by decide) (by decide) (by decide) (p_r fun m e => ?_)
  have e : m = iB27 := e
  subst e
  rw [show tm_z iB26 = 77 by decide +kernel]
  refine g_putF dX6_init_117 fX6_59F rfl rfl (by decide) (by decide +kernel) (fun e => absurd e (by decide)) (p_r fun m e => ?_)
  have e : m = iB28 := e
  subst e
  refine g_aload_n (q := 0) dX6_init_120 rfl rfl ?_
  refine g_bipush dX6_init_121 ⟨by decide, by decide, rfl⟩ ?_
  refine g_newarray (k := 20) dX6_init_123 (by decide) rfl q354 (by decide) (by decide) (by decide) (p_r fun m e => ?_)
  have e : m = iB29 := e
  subst e
  rw [show tm_z iB28 = 78 by decide +kernel]
  refine g_putF dX6_init_125 fX6_62F rfl rfl (by decide) (by decide +kernel) (fun e => absurd e (by decide)) (p_r fun m e => ?_)
  have e : m = iB30 := e
  subst e
  refine g_aload_n (q := 0) dX6_init_128 rfl rfl ?_
  refine g_bipush dX6_init_129 ⟨by decide, by decide, rfl⟩ ?_
  refine g_newarray (k := 20) dX6_init_131 (by decide) rfl q354 (by decide) (by decide) (by decide) (p_r fun m e => ?_)
  have e : m = iB31 := e
  subst e
  rw [show tm_z iB30 = 79 by decide +kernel]
  refine g_putF dX6_init_133 fX6_65F rfl rfl (by decide) (by decide +kernel) (fun e => absurd e (by decide)) (p_r fun m e => ?_)
  have e : m = iB32 := e
  subst e
  refine g_aload_n (q := 0) dX6_init_136 rfl rfl ?_
  refine g_bipush dX6_init_137 ⟨by decide, by decide, rfl⟩ ?_
  refine g_newarray (k := 24) dX6_init_139 (by decide) rfl q374 (by decide) (by decide) (by decide) (p_r fun m e => ?_)
  have e : m = iB33 := e
  subst e
  rw [show tm_z iB32 = 80 by decide +kernel]
  refine g_putF dX6_init_141 fX6_68F rfl rfl (by decide) (by decide +kernel) (fun e => absurd e (by decide)) (p_r fun m e => ?_)
  have e : m = iB34 := e
  subst e
  refine g_aload_n (q := 0) dX6_init_144 rfl rfl ?_
  refine g_bipush dX6_init_145 ⟨by decide, by decide, rfl⟩ ?_
  refine g_newarray (k := 21) dX6_init_147 (by decide) rfl q375 (by decide) (by decide) (by decide) (p_r fun m e => ?_)
  have e : m = iB35 := e
  subst e
  rw [show tm_z iB34 = 81 by decide +kernel]
  refine g_putF dX6_init_149 fX6_72F rfl rfl (by decide) (by decide +kernel) (fun e => absurd e (by decide)) (p_r fun m e => ?_)
  have e : m = iB36 := e
  subst e
  refine g_aload_n (q := 0) dX6_init_152 rfl rfl ?_
  refine g_bipush dX6_init_153 ⟨by decide, by decide, rfl⟩ ?_
  refine g_newarray (k := 20) dX6_init_155 (by decide) rfl q354 (by decide) (by decide) (by decide) (p_r fun m e => ?_)
  have e : m = iB37 := e
  subst e
  rw [show tm_z iB36 = 82 by decide +kernel]
  refine g_putF dX6_init_157 fX6_75F rfl rfl (by decide) (by decide +kernel) (fun e => absurd e (by decide)) (p_r fun m e => ?_)
  have e : m = iB38 := e
  subst e
  refine g_aload_n (q := 0) dX6_init_160 rfl rfl ?_
  refine g_sipush dX6_init_161 ⟨by decide, by decide, rfl⟩ ?_
  refine g_newarray (k := 20) dX6_init_164 (by decide) rfl q354 (by decide) (by decide) (by decide) (p_r fun m e => ?_)
  have e : m = iB39 := e
  subst e
  rw [show tm_z iB38 = 83 by decide +kernel]
  refine g_putF dX6_init_166 fX6_78F rfl rfl (by decide) (by decide +kernel) (fun e => absurd e (by decide)) (p_r fun m e => ?_)
  have e : m = iB40 := e
  subst e
  refine g_aload_n (q := 0) dX6_init_169 rfl rfl ?_
  refine g_bipush dX6_init_170 ⟨by decide, by decide, rfl⟩ ?_
  refine g_newarray (k := 24) dX6_init_172 (by decide) rfl q374 (by decide) (by decide) (by decide) (p_r fun m e => ?_)
  have e : m = iB41 := e
  subst e
  rw [show tm_z iB40 = 84 by decide +kernel]
  refine g_putF dX6_init_174 fX6_81F rfl rfl (by decide) (by decide +kernel) (fun e => absurd e (by decide)) (p_r fun m e => ?_)
  have e : m = iB42 := e
  subst e
  refine g_aload_n (q := 0) dX6_init_177 rfl rfl ?_
  refine g_iconst dX6_init_178 (by decide) ?_
  refine g_newarray (k := 20) dX6_init_179 (by decide) rfl q354 (by decide) (by decide) (by decide) (p_r fun m e => ?_)
  have e : m = iB43 := e
  subst e
  rw [show tm_z iB42 = 85 by decide +kernel]
  refine g_putF dX6_init_181 fX6_84F rfl rfl (by decide) (by decide +kernel) (fun e => absurd e (by decide)) (p_r fun m e => ?_)
  have e : m = iB44 := e
  subst e
  refine g_aload_n (q := 0) dX6_init_184 rfl rfl ?_
  refine g_iconst dX6_init_185 (by decide) ?_
  refine g_newarray (k := 20) dX6_init_186 (by decide) rfl q354 (by decide) (by decide) (by decide) (p_r fun m e => ?_)
  have e : m = iB45 := e
  subst e
  rw [show tm_z iB44 = 86 by decide +kernel]
  refine g_putF dX6_init_188 fX6_87F rfl rfl (by decide) (by decide +kernel) (fun e => absurd e (by decide)) (p_r fun m e => ?_)
  have e : m = iB46 := e
  subst e
  refine g_aload_n (q := 0) dX6_init_191 rfl rfl ?_
  refine g_iconst dX6_init_192 (by decide) ?_
  refine g_newarray (k := 20) dX6_init_193 (by decide) rfl q354 (by decide) (by decide) (by decide) (p_r fun m e => ?_)
  have e : m = iB47 := e
  subst e
  rw [show tm_z iB46 = 87 by decide +kernel]
  refine g_putF dX6_init_195 fX6_90F rfl rfl (by decide) (by decide +kernel) (fun e => absurd e (by decide)) (p_r fun m e => ?_)
  have e : m = iB48 := e
  subst e
  refine g_aload_n (q := 0) dX6_init_198 rfl rfl ?_
  refine g_bipush dX6_init_199 ⟨by decide, by decide, rfl⟩ ?_
  refine g_newarray (k := 20) dX6_init_201 (by decide) rfl q354 (by decide) (by decide) (by decide) (p_r fun m e => ?_)
  have e : m = iB49 := e
  subst e
  rw [show tm_z iB48 = 88 by decide +kernel]
  refine g_putF dX6_init_203 fX6_93F rfl rfl (by decide) (by decide +kernel) (fun e => absurd e (by decide)) (p_r fun m e => ?_)
  have e : m = iB50 := e
  subst e
  refine g_aload_n (q := 0) dX6_init_206 rfl rfl ?_
  refine g_bipush dX6_init_207 ⟨by decide, by decide, rfl⟩ ?_
  refine g_newarray (k := 20) dX6_init_209 (by decide) rfl q354 (by decide) (by decide) (by decide) (p_r fun m e => ?_)
  have e : m = iB51 := e
  subst e
  rw [show tm_z iB50 = 89 by decide +kernel]
  refine g_putF dX6_init_211 fX6_96F rfl rfl (by decide) (by decide +kernel) (fun e => absurd e (by decide)) (p_r fun m e => ?_)
  have e : m = iB52 := e
  subst e
  refine g_aload_n (q := 0) dX6_init_214 rfl rfl ?_
  refine g_bipush dX6_init_215 ⟨by decide, by decide, rfl⟩ ?_
  refine g_newarray (k := 20) dX6_init_217 (by decide) rfl q354 (by decide) (by decide) (by decide) (p_r fun m e => ?_)
  have e : m = iB53 := e
  subst e
  rw [show tm_z iB52 = 90 by decide +kernel]
  refine g_putF dX6_init_219 fX6_99F rfl rfl (by decide) (by decide +kernel) (fun e => absurd e (by decide)) (p_r fun m e => ?_)
  have e : m = iB54 := e
  subst e
  refine g_aload_n (q := 0) dX6_init_222 rfl rfl ?_
  refine g_iconst dX6_init_223 (by decide) ?_
  refine g_newarray (k := 20) dX6_init_224 (by decide) rfl q354 (by decide) (by decide) (by decide) (p_r fun m e => ?_)
  have e : m = iB55 := e
  subst e
  rw [show tm_z iB54 = 91 by decide +kernel]
  refine g_putF dX6_init_226 fX6_102F rfl rfl (by decide) (by decide +kernel) (fun e => absurd e (by decide)) (p_r fun m e => ?_)
  have e : m = iB56 := e
  subst e
  refine g_aload_n (q := 0) dX6_init_229 rfl rfl ?_
  refine g_bipush dX6_init_230 ⟨by decide, by decide, rfl⟩ ?_
  refine g_newarray (k := 20) dX6_init_232 (by decide) rfl q354 (by decide) (by decide) (by decide) (p_r fun m e => ?_)
  have e : m = iB57 := e
  subst e
  rw [show tm_z iB56 = 92 by decide +kernel]
  refine g_putF dX6_init_234 fX6_105F rfl rfl (by decide) (by decide +kernel) (fun e => absurd e (by decide)) (p_r fun m e => ?_)
  have e : m = iB58 := e
  subst e
  refine g_aload_n (q := 0) dX6_init_237 rfl rfl ?_
  refine g_iconst dX6_init_238 (by decide) ?_
  refine g_newarray (k := 21) dX6_init_239 (by decide) rfl q375 (by decide) (by decide) (by decide) (p_r fun m e => ?_)
  have e : m = iB59 := e
  subst e
  rw [show tm_z iB58 = 93 by decide +kernel]
  refine g_putF dX6_init_241 fX6_108F rfl rfl (by decide) (by decide +kernel) (fun e => absurd e (by decide)) (p_r fun m e => ?_)
  have e : m = iB60 := e
  subst e
  refine g_aload_n (q := 0) dX6_init_244 rfl rfl ?_
  refine g_lconst1 dX6_init_245 ?_
  refine g_put dX6_init_246 fX6_111 rfl (by decide) (by decide +kernel) (fun e => absurd e (by decide)) (p_r fun m e => ?_)
  have e : m = iB61 := e
  subst e
  refine g_aload_n (q := 0) dX6_init_249 rfl rfl ?_
  refine g_bipush dX6_init_250 ⟨by decide, by decide, rfl⟩ ?_
  refine g_newarray (k := 24) dX6_init_252 (by decide) rfl q374 (by decide) (by decide) (by decide) (p_r fun m e => ?_)
  have e : m = iB62 := e
  subst e
  rw [show tm_z iB61 = 94 by decide +kernel]
  refine g_putF dX6_init_254 fX6_114F rfl rfl (by decide) (by decide +kernel) (fun e => absurd e (by decide)) (p_r fun m e => ?_)
  have e : m = iB63 := e
  subst e
  refine g_aload_n (q := 0) dX6_init_257 rfl rfl ?_
  refine g_bipush dX6_init_258 ⟨by decide, by decide, rfl⟩ ?_
  refine g_newarray (k := 24) dX6_init_260 (by decide) rfl q374 (by decide) (by decide) (by decide) (p_r fun m e => ?_)
  have e : m = iB64 := e
  subst e
  rw [show tm_z iB63 = 95 by decide +kernel]
  refine g_putF dX6_init_262 fX6_117F rfl rfl (by decide) (by decide +kernel) (fun e => absurd e (by decide)) (p_r fun m e => ?_)
  have e : m = iB65 := e
  subst e
  refine g_aload_n (q := 0) dX6_init_265 rfl rfl ?_
  refine g_bipush dX6_init_266 ⟨by decide, by decide, rfl⟩ ?_
  refine g_newarray (k := 20) dX6_init_268 (by decide) rfl q354 (by decide) (by decide) (by decide) (p_r fun m e => ?_)
  have e : m = iB66 := e
  subst e
  rw [show tm_z iB65 = 96 by decide +kernel]
  refine g_putF dX6_init_270 fX6_120F rfl rfl (by decide) (by decide +kernel) (fun e => absurd e (by decide)) (p_r fun m e => ?_)
  have e : m = iB67 := e
  subst e
  refine g_aload_n (q := 0) dX6_init_273 rfl rfl ?_
  refine g_bipush dX6_init_274 ⟨by decide, by decide, rfl⟩ ?_
  refine g_newarray (k := 21) dX6_init_276 (by decide) rfl q375 (by decide) (by decide) (by decide) (p_r fun m e => ?_)
  have e : m = iB68 := e
  subst e
  rw [show tm_z iB67 = 97 by decide +kernel]
  refine g_putF dX6_init_278 fX6_123F rfl rfl (by decide) (by decide +kernel) (fun e => absurd e (by decide)) (p_r fun m e => ?_)
  have e : m = iB69 := e
  subst e
  refine g_aload_n (q := 0) dX6_init_281 rfl rfl ?_
  refine g_bipush dX6_init_282 ⟨by decide, by decide, rfl⟩ ?_
  refine g_newarray (k := 21) dX6_init_284 (by decide) rfl q375 (by decide) (by decide) (by decide) (p_r fun m e => ?_)
  have e : m = iB70 := e
  subst e
  rw [show tm_z iB69 = 98 by decide +kernel]
  refine g_putF dX6_init_286 fX6_126F rfl rfl (by decide) (by decide +kernel) (fun e => absurd e (by decide)) (p_r fun m e => ?_)
  have e : m = iB71 := e
  subst e
  refine g_aload_n (q := 0) dX6_init_289 rfl rfl ?_
  refine g_iconst dX6_init_290 (by decide) ?_
  refine g_newarray (k := 20) dX6_init_291 (by decide) rfl q354 (by decide) (by decide) (by decide) (p_r fun m e => ?_)
  have e : m = iB72 := e
  subst e
  rw [show tm_z iB71 = 99 by decide +kernel]
  refine g_putF dX6_init_293 fX6_129F rfl rfl (by decide) (by decide +kernel) (fun e => absurd e (by decide)) (p_r fun m e => ?_)
  have e : m = iB73 := e
  subst e
  refine g_aload_n (q := 0) dX6_init_296 rfl rfl ?_
  refine g_iconst dX6_init_297 (by decide) ?_
  refine g_newarray (k := 20) dX6_init_298 (by decide) rfl q354 (by decide) (by decide) (by decide) (p_r fun m e => ?_)
  have e : m = iB74 := e
  subst e
  rw [show tm_z iB73 = 100 by decide +kernel]
  refine g_putF dX6_init_300 fX6_132F rfl rfl (by decide) (by decide +kernel) (fun e => absurd e (by decide)) (p_r fun m e => ?_)
  have e : m = iB75 := e
  subst e
  refine g_aload_n (q := 0) dX6_init_303 rfl rfl ?_
  refine g_bipush dX6_init_304 ⟨by decide, by decide, rfl⟩ ?_
  refine g_newarray (k := 20) dX6_init_306 (by decide) rfl q354 (by decide) (by decide) (by decide) (p_r fun m e => ?_)
  have e : m = iB76 := e
  subst e
  rw [show tm_z iB75 = 101 by decide +kernel]
  refine g_putF dX6_init_308 fX6_135F rfl rfl (by decide) (by decide +kernel) (fun e => absurd e (by decide)) (p_r fun m e => ?_)
  have e : m = iB77 := e
  subst e
  refine g_aload_n (q := 0) dX6_init_311 rfl rfl ?_
  refine g_iconst dX6_init_312 (by decide) ?_
  refine g_newarray (k := 21) dX6_init_313 (by decide) rfl q375 (by decide) (by decide) (by decide) (p_r fun m e => ?_)
  have e : m = iB78 := e
  subst e
  rw [show tm_z iB77 = 102 by decide +kernel]
  refine g_putF dX6_init_315 fX6_138F rfl rfl (by decide) (by decide +kernel) (fun e => absurd e (by decide)) (p_r fun m e => ?_)
  have e : m = iB79 := e
  subst e
  refine g_aload_n (q := 0) dX6_init_318 rfl rfl ?_
  refine g_bipush dX6_init_319 ⟨by decide, by decide, rfl⟩ ?_
  refine g_newarray (k := 21) dX6_init_321 (by decide) rfl q375 (by decide) (by decide) (by decide) (p_r fun m e => ?_)
  have e : m = iB80 := e
  subst e
  rw [show tm_z iB79 = 103 by decide +kernel]
  refine g_putF dX6_init_323 fX6_141F rfl rfl (by decide) (by decide +kernel) (fun e => absurd e (by decide)) (p_r fun m e => ?_)
  have e : m = iB81 := e
  subst e
  refine g_iconst dX6_init_326 (by decide) ?_
  refine g_istore_n (L' := [(0, 2, 65), (1, 0, 0)]) dX6_init_327 rfl (by decide) [1, 0] rfl ?_
  refine g_iload_n (q := 1) dX6_init_328 rfl rfl ?_
  refine g_iconst dX6_init_329 (by decide) ?_
  refine g_icmp_ge (tgt := 346) dX6_init_330 (by decide +kernel) (fun c => absurd c (by decide)) (fun _ => ?_)
  refine g_aload_n (q := 0) dX6_init_333 rfl rfl ?_
  refine g_getC (x := 67) 2 dX6_init_334 fX6_17 rfl (by decide) (by decide +kernel) (by decide +kernel) ?_
  refine g_iload_n (q := 1) dX6_init_337 rfl rfl ?_
  refine g_iconst dX6_init_338 (by decide) ?_
  refine g_iastore dX6_init_339 (by decide) (by decide +kernel) (by decide) (by decide +kernel) (p_r fun m e => ?_)
  have e : m = iB82 := e
  subst e
  refine g_iinc (q := 1) (L' := [(0, 2, 65), (1, 0, 1)]) dX6_init_340 (by decide) rfl [1, 0] (by rw [w32_id (by decide) (by decide)]; rfl) ?_
  refine g_goto (tgt := 328) dX6_init_343 (by decide +kernel) ?_
  refine g_iload_n (q := 1) dX6_init_328 rfl rfl ?_
  refine g_iconst dX6_init_329 (by decide) ?_
  refine g_icmp_ge (tgt := 346) dX6_init_330 (by decide +kernel) (fun c => absurd c (by decide)) (fun _ => ?_)
  refine g_aload_n (q := 0) dX6_init_333 rfl rfl ?_
  refine g_getC (x := 67) 2 dX6_init_334 fX6_17 rfl (by decide) (by decide +kernel) (by decide +kernel) ?_
  refine g_iload_n (q := 1) dX6_init_337 rfl rfl ?_
  refine g_iconst dX6_init_338 (by decide) ?_
  refine g_iastore dX6_init_339 (by decide) (by decide +kernel) (by decide) (by decide +kernel) (p_r fun m e => ?_)
  have e : m = iB83 := e
  subst e
  refine g_iinc (q := 1) (L' := [(0, 2, 65), (1, 0, 2)]) dX6_init_340 (by decide) rfl [1, 0] (by rw [w32_id (by decide) (by decide)]; rfl) ?_
  refine g_goto (tgt := 328) dX6_init_343 (by decide +kernel) ?_
  refine g_iload_n (q := 1) dX6_init_328 rfl rfl ?_
  refine g_iconst dX6_init_329 (by decide) ?_
  refine g_icmp_ge (tgt := 346) dX6_init_330 (by decide +kernel) (fun c => absurd c (by decide)) (fun _ => ?_)
  refine g_aload_n (q := 0) dX6_init_333 rfl rfl ?_
  refine g_getC (x := 67) 2 dX6_init_334 fX6_17 rfl (by decide) (by decide +kernel) (by decide +kernel) ?_
  refine g_iload_n (q := 1) dX6_init_337 rfl rfl ?_
  refine g_iconst dX6_init_338 (by decide) ?_
  refine g_iastore dX6_init_339 (by decide) (by decide +kernel) (by decide) (by decide +kernel) (p_r fun m e => ?_)
  have e : m = iB84 := e
  subst e
  refine g_iinc (q := 1) (L' := [(0, 2, 65), (1, 0, 3)]) dX6_init_340 (by decide) rfl [1, 0] (by rw [w32_id (by decide) (by decide)]; rfl) ?_
  refine g_goto (tgt := 328) dX6_init_343 (by decide +kernel) ?_
  refine g_iload_n (q := 1) dX6_init_328 rfl rfl ?_
  refine g_iconst dX6_init_329 (by decide) ?_
  refine g_icmp_ge (tgt := 346) dX6_init_330 (by decide +kernel) (fun c => absurd c (by decide)) (fun _ => ?_)
  refine g_aload_n (q := 0) dX6_init_333 rfl rfl ?_
  refine g_getC (x := 67) 2 dX6_init_334 fX6_17 rfl (by decide) (by decide +kernel) (by decide +kernel) ?_
  refine g_iload_n (q := 1) dX6_init_337 rfl rfl ?_
  refine g_iconst dX6_init_338 (by decide) ?_
  refine g_iastore dX6_init_339 (by decide) (by decide +kernel) (by decide) (by decide +kernel) (p_r fun m e => ?_)
  have e : m = iB85 := e
  subst e
  refine g_iinc (q := 1) (L' := [(0, 2, 65), (1, 0, 4)]) dX6_init_340 (by decide) rfl [1, 0] (by rw [w32_id (by decide) (by decide)]; rfl) ?_
  refine g_goto (tgt := 328) dX6_init_343 (by decide +kernel) ?_
  refine g_iload_n (q := 1) dX6_init_328 rfl rfl ?_
  refine g_iconst dX6_init_329 (by decide) ?_
  refine g_icmp_ge (tgt := 346) dX6_init_330 (by decide +kernel) (fun _ => ?_) (fun c => absurd c (by decide))
  exact g_vret dX6_init_346 rfl (by decide) (by decide) ⟨rfl, rfl⟩
-- cells 63 38 slots 2114 1605 end 104 iA81 iB85
