/-! PART 33.c (printed by dc.py, mkc.py) -/
set_option maxRecDepth 100000
theorem pcy_X9_init : pcY yX9_init cX9_init 1 none 0 := ⟨q949, q169, ⟨by decide +kernel, by decide +kernel, by decide +kernel⟩, Nat.le_of_ble_eq_true rfl⟩
noncomputable def fX9_init (a0 : Nat) (h : PH) : Option (PH) :=
  some h
set_option maxHeartbeats 1000000 in
theorem kX9_init {l : Launch} {D : PD} {A : Nat → Prop} {cap : Nat × Nat} {a0 : Nat} {h h' : PH} (hf : fX9_init a0 h = some h') : CMet l D A cap yX9_init cX9_init 1 none 2 [.ref a0] h h' (none) := by
  unfold fX9_init at hf
  refine p_head (own := RX9) (ini := true) (pn_X9 rfl) rfl (fun q => rfl) (Nat.le_of_ble_eq_true rfl) (fun m Z cx sx H0 ls X hM hl => ?_)
  have G := X.g
  have hl : lv_has ls 1 [(0, .ref a0)] := hl
  refine g_aload_n G dX9_init_0 rfl (lv_at hl 0 rfl) ?_
  refine p_obj X hl q950 q190 q191 (by decide) (Nat.le_of_ble_eq_true rfl) dX9_init_1 ?_
  exact p_vret X hM hf dX9_init_4
theorem pcy_X13_init : pcY yX13_init cX13_init 1 none 0 := ⟨q1011, q173, ⟨by decide +kernel, by decide +kernel, by decide +kernel⟩, Nat.le_of_ble_eq_true rfl⟩
noncomputable def fX13_init (a0 : Nat) (h : PH) : Option (PH) :=
  some h
set_option maxHeartbeats 1000000 in
theorem kX13_init {l : Launch} {D : PD} {A : Nat → Prop} {cap : Nat × Nat} {a0 : Nat} {h h' : PH} (hf : fX13_init a0 h = some h') : CMet l D A cap yX13_init cX13_init 1 none 2 [.ref a0] h h' (none) := by
  unfold fX13_init at hf
  refine p_head (own := RX13) (ini := true) (pn_X13 rfl) rfl (fun q => rfl) (Nat.le_of_ble_eq_true rfl) (fun m Z cx sx H0 ls X hM hl => ?_)
  have G := X.g
  have hl : lv_has ls 1 [(0, .ref a0)] := hl
  refine g_aload_n G dX13_init_0 rfl (lv_at hl 0 rfl) ?_
  refine p_obj X hl q1012 q190 q191 (by decide) (Nat.le_of_ble_eq_true rfl) dX13_init_1 ?_
  exact p_vret X hM hf dX13_init_4
theorem pcy_X4_init : pcY yX4_init cX4_init 1 none 0 := ⟨q378, q155, ⟨by decide +kernel, by decide +kernel, by decide +kernel⟩, Nat.le_of_ble_eq_true rfl⟩
noncomputable def fX4_init (cap : Nat × Nat) (a0 : Nat) (h : PH) : Option (PH) :=
  ck (!decide ((12 : Int32) < 0) && decide ((Int32.toNatClampNeg 12) ≤ 100000)) <|
  bnd (pNew cap h (.inl (1, (Int32.toNatClampNeg 12), .inr (.inl (fun _ => 0)))) (Int32.toNatClampNeg 12)) fun p1 h1 =>
  bnv (pPut h1 a0 4 0 (.ref p1)) fun h2 =>
  some h2
set_option maxHeartbeats 1000000 in
theorem kX4_init {l : Launch} {D : PD} {A : Nat → Prop} {cap : Nat × Nat} {a0 : Nat} {h h' : PH} (hf : fX4_init cap a0 h = some h') : CMet l D A cap yX4_init cX4_init 1 none 2 [.ref a0] h h' (none) := by
  unfold fX4_init at hf
  refine p_head (own := RX4) (ini := true) (pn_X4 rfl) rfl (fun q => rfl) (Nat.le_of_ble_eq_true rfl) (fun m Z cx sx H0 ls X hM hl => ?_)
  have G := X.g
  have hl : lv_has ls 1 [(0, .ref a0)] := hl
  refine g_aload_n G dX4_init_0 rfl (lv_at hl 0 rfl) ?_
  refine p_obj X hl q379 q190 q191 (by decide) (Nat.le_of_ble_eq_true rfl) dX4_init_1 ?_
  refine g_aload_n G dX4_init_4 rfl (lv_at hl 0 rfl) ?_
  refine g_bipush (v := 12) G dX4_init_5 rfl ?_
  obtain ⟨b1, hf⟩ := ck_open hf
  obtain ⟨p1, h1, g1, hf⟩ := bnd_open hf
  refine p_newJ X hM b1 g1 dX4_init_7 (fun H locs hM => ?_)
  obtain ⟨h2, g2, hf⟩ := bnv_open hf
  refine p_putF (k := 0) X hM pc_4 (by decide) q380 rfl rfl rfl rfl rfl g2 dX4_init_9 (fun H locs hM => ?_)
  exact p_vret X hM hf dX4_init_12
theorem pcy_X16_init : pcY yX16_init cX16_init 3 none 1 := ⟨q1077, q178, ⟨by decide +kernel, by decide +kernel, by decide +kernel⟩, Nat.le_of_ble_eq_true rfl⟩
noncomputable def fX16_init (a0 : Nat) (a1 : Int64) (h : PH) : Option (PH) :=
  bnv (fX13_init a0 h) fun h1 =>
  bnv (pPut h1 a0 16 0 (.long a1)) fun h2 =>
  some h2
set_option maxHeartbeats 1000000 in
theorem kX16_init {l : Launch} {D : PD} {A : Nat → Prop} {cap : Nat × Nat} {a0 : Nat} {a1 : Int64} {h h' : PH} (hf : fX16_init a0 a1 h = some h') : CMet l D A cap yX16_init cX16_init 3 none 3 [.ref a0, .long a1] h h' (none) := by
  unfold fX16_init at hf
  refine p_head (own := RX16) (ini := true) (pn_X16 rfl) rfl (fun q => rfl) (Nat.le_of_ble_eq_true rfl) (fun m Z cx sx H0 ls X hM hl => ?_)
  have G := X.g
  have hl : lv_has ls 3 [(0, .ref a0), (1, .long a1)] := hl
  refine g_aload_n G dX16_init_0 rfl (lv_at hl 0 rfl) ?_
  obtain ⟨h1, g1, hf⟩ := bnv_open hf
  refine p_callIN_v (As := []) (rest := []) X hM hl pcy_X13_init rfl q1078 q1010 (kX13_init g1) rfl (Nat.le_of_ble_eq_true rfl) (Nat.le_of_ble_eq_true rfl) rfl dX16_init_1 (fun H locs hM => ?_)
  refine g_aload_n G dX16_init_4 rfl (lv_at hl 0 rfl) ?_
  refine g_lload_n G dX16_init_5 rfl (lv_at hl 1 rfl) ?_
  obtain ⟨h2, g2, hf⟩ := bnv_open hf
  refine p_putF (k := 0) X hM pc_16 (by decide) q1079 rfl rfl rfl rfl rfl g2 dX16_init_6 (fun H locs hM => ?_)
  exact p_vret X hM hf dX16_init_9
theorem pcy_X17_init : pcY yX17_init cX17_init 2 none 1 := ⟨q1089, q179, ⟨by decide +kernel, by decide +kernel, by decide +kernel⟩, Nat.le_of_ble_eq_true rfl⟩
noncomputable def fX17_init (a0 : Nat) (a1 : Int32) (h : PH) : Option (PH) :=
  bnv (fX13_init a0 h) fun h1 =>
  bnv (pPut h1 a0 17 0 (.int a1)) fun h2 =>
  some h2
set_option maxHeartbeats 1000000 in
theorem kX17_init {l : Launch} {D : PD} {A : Nat → Prop} {cap : Nat × Nat} {a0 : Nat} {a1 : Int32} {h h' : PH} (hf : fX17_init a0 a1 h = some h') : CMet l D A cap yX17_init cX17_init 2 none 3 [.ref a0, .int a1] h h' (none) := by
  unfold fX17_init at hf
  refine p_head (own := RX17) (ini := true) (pn_X17 rfl) rfl (fun q => rfl) (Nat.le_of_ble_eq_true rfl) (fun m Z cx sx H0 ls X hM hl => ?_)
  have G := X.g
  have hl : lv_has ls 2 [(0, .ref a0), (1, .int a1)] := hl
  refine g_aload_n G dX17_init_0 rfl (lv_at hl 0 rfl) ?_
  obtain ⟨h1, g1, hf⟩ := bnv_open hf
  refine p_callIN_v (As := []) (rest := []) X hM hl pcy_X13_init rfl q1090 q1010 (kX13_init g1) rfl (Nat.le_of_ble_eq_true rfl) (Nat.le_of_ble_eq_true rfl) rfl dX17_init_1 (fun H locs hM => ?_)
  refine g_aload_n G dX17_init_4 rfl (lv_at hl 0 rfl) ?_
  refine g_iload_n G dX17_init_5 rfl (lv_at hl 1 rfl) ?_
  obtain ⟨h2, g2, hf⟩ := bnv_open hf
  refine p_putF (k := 0) X hM pc_17 (by decide) q1091 rfl rfl rfl rfl rfl g2 dX17_init_6 (fun H locs hM => ?_)
  exact p_vret X hM hf dX17_init_9
theorem pcy_X15_init : pcY yX15_init cX15_init 4 none 3 := ⟨q1061, q177, ⟨by decide +kernel, by decide +kernel, by decide +kernel⟩, Nat.le_of_ble_eq_true rfl⟩
noncomputable def fX15_init (a0 : Nat) (a1 : Bool) (a2 : Nat) (a3 : Nat) (h : PH) : Option (PH) :=
  bnv (fX13_init a0 h) fun h1 =>
  bnv (pPut h1 a0 15 0 (.int (bI a1))) fun h2 =>
  bnv (pPut h2 a0 15 1 (.ref a2)) fun h3 =>
  bnv (pPut h3 a0 15 2 (.ref a3)) fun h4 =>
  some h4
set_option maxHeartbeats 1000000 in
theorem kX15_init {l : Launch} {D : PD} {A : Nat → Prop} {cap : Nat × Nat} {a0 : Nat} {a1 : Bool} {a2 : Nat} {a3 : Nat} {h h' : PH} (hf : fX15_init a0 a1 a2 a3 h = some h') : CMet l D A cap yX15_init cX15_init 4 none 3 [.ref a0, .int (bI a1), .ref a2, .ref a3] h h' (none) := by
  unfold fX15_init at hf
  refine p_head (own := RX15) (ini := true) (pn_X15 rfl) rfl (fun q => rfl) (Nat.le_of_ble_eq_true rfl) (fun m Z cx sx H0 ls X hM hl => ?_)
  have G := X.g
  have hl : lv_has ls 4 [(0, .ref a0), (1, .int (bI a1)), (2, .ref a2), (3, .ref a3)] := hl
  refine g_aload_n G dX15_init_0 rfl (lv_at hl 0 rfl) ?_
  obtain ⟨h1, g1, hf⟩ := bnv_open hf
  refine p_callIN_v (As := []) (rest := []) X hM hl pcy_X13_init rfl q1062 q1010 (kX13_init g1) rfl (Nat.le_of_ble_eq_true rfl) (Nat.le_of_ble_eq_true rfl) rfl dX15_init_1 (fun H locs hM => ?_)
  refine g_aload_n G dX15_init_4 rfl (lv_at hl 0 rfl) ?_
  refine g_iload_n G dX15_init_5 rfl (lv_at hl 1 rfl) ?_
  obtain ⟨h2, g2, hf⟩ := bnv_open hf
  refine p_putF (k := 0) X hM pc_15 (by decide) q1063 rfl rfl rfl (bI_nar _) (bI_fit _) g2 dX15_init_6 (fun H locs hM => ?_)
  refine g_aload_n G dX15_init_9 rfl (lv_at hl 0 rfl) ?_
  refine g_aload_n G dX15_init_10 rfl (lv_at hl 2 rfl) ?_
  obtain ⟨h3, g3, hf⟩ := bnv_open hf
  refine p_putF (k := 1) X hM pc_15 (by decide) q1064 rfl rfl rfl rfl rfl g3 dX15_init_11 (fun H locs hM => ?_)
  refine g_aload_n G dX15_init_14 rfl (lv_at hl 0 rfl) ?_
  refine g_aload_n G dX15_init_15 rfl (lv_at hl 3 rfl) ?_
  obtain ⟨h4, g4, hf⟩ := bnv_open hf
  refine p_putF (k := 2) X hM pc_15 (by decide) q1065 rfl rfl rfl rfl rfl g4 dX15_init_16 (fun H locs hM => ?_)
  exact p_vret X hM hf dX15_init_19
theorem pcy_X14_init : pcY yX14_init cX14_init 1 none 0 := ⟨q1008, q174, ⟨by decide +kernel, by decide +kernel, by decide +kernel⟩, Nat.le_of_ble_eq_true rfl⟩
noncomputable def fX14_init (D : PD) (cap : Nat × Nat) (a0 : Nat) (h : PH) : Option (PH) :=
  bnv (fX13_init a0 h) fun h1 =>
  bnd (pNew cap h1 (.inr (21, [.int 0, .null, .int 0])) 3) fun p1 h2 =>
  bnv (fJ2_init D cap p1 2 h2) fun h3 =>
  bnv (pPut h3 a0 14 0 (.ref p1)) fun h4 =>
  bnd (pNew cap h4 (.inr (23, [.null, .int 0, .int 0, .int 0])) 4) fun p2 h5 =>
  bnv (fJ15_init D cap p2 h5) fun h6 =>
  bnv (pPut h6 a0 14 1 (.ref p2)) fun h7 =>
  some h7
set_option maxHeartbeats 1000000 in
theorem kX14_init {l : Launch} {D : PD} {A : Nat → Prop} {cap : Nat × Nat} {a0 : Nat} {h h' : PH} (hf : fX14_init D cap a0 h = some h') : CMet l D A cap yX14_init cX14_init 1 none 5 [.ref a0] h h' (none) := by
  unfold fX14_init at hf
  refine p_head (own := RX14) (ini := true) (pn_X14 rfl) rfl (fun q => rfl) (Nat.le_of_ble_eq_true rfl) (fun m Z cx sx H0 ls X hM hl => ?_)
  have G := X.g
  have hl : lv_has ls 1 [(0, .ref a0)] := hl
  refine g_aload_n G dX14_init_0 rfl (lv_at hl 0 rfl) ?_
  obtain ⟨h1, g1, hf⟩ := bnv_open hf
  refine p_callIN_v (As := []) (rest := []) X hM hl pcy_X13_init rfl q1009 q1010 (kX13_init g1) rfl (Nat.le_of_ble_eq_true rfl) (Nat.le_of_ble_eq_true rfl) rfl dX14_init_1 (fun H locs hM => ?_)
  refine g_aload_n G dX14_init_4 rfl (lv_at hl 0 rfl) ?_
  obtain ⟨p1, h2, g2, hf⟩ := bnd_open hf
  refine p_new X hM pc_21 q1013 q199 q149 (by decide +kernel) g2 dX14_init_5 (fun H locs hM => ?_)
  refine g_dup G dX14_init_8 rfl ?_
  refine g_iconst (v := 2) G dX14_init_9 rfl ?_
  obtain ⟨h3, g3, hf⟩ := bnv_open hf
  refine p_callI_v (As := [.int 2]) (rest := [.ref p1, .ref a0]) X hM hl pcy_J2_init rfl q1014 q201 (kJ2_init g3) rfl (Nat.le_of_ble_eq_true rfl) (Nat.le_of_ble_eq_true rfl) rfl dX14_init_10 (fun H locs hM => ?_)
  obtain ⟨h4, g4, hf⟩ := bnv_open hf
  refine p_putF (k := 0) X hM pc_14 (by decide) q1038 rfl rfl rfl rfl rfl g4 dX14_init_13 (fun H locs hM => ?_)
  refine g_aload_n G dX14_init_16 rfl (lv_at hl 0 rfl) ?_
  obtain ⟨p2, h5, g5, hf⟩ := bnd_open hf
  refine p_new X hM pc_23 q1015 q1016 q176 (by decide +kernel) g5 dX14_init_17 (fun H locs hM => ?_)
  refine g_dup G dX14_init_20 rfl ?_
  obtain ⟨h6, g6, hf⟩ := bnv_open hf
  refine p_callI_v (As := []) (rest := [.ref p2, .ref a0]) X hM hl pcy_J15_init rfl q1017 q1018 (kJ15_init g6) rfl (Nat.le_of_ble_eq_true rfl) (Nat.le_of_ble_eq_true rfl) rfl dX14_init_21 (fun H locs hM => ?_)
  obtain ⟨h7, g7, hf⟩ := bnv_open hf
  refine p_putF (k := 1) X hM pc_14 (by decide) q1039 rfl rfl rfl rfl rfl g7 dX14_init_24 (fun H locs hM => ?_)
  exact p_vret X hM hf dX14_init_27
theorem pcy_X14_add : pcY yX14_add cX14_add 3 none 2 := ⟨q1122, q174, ⟨by decide +kernel, by decide +kernel, by decide +kernel⟩, Nat.le_of_ble_eq_true rfl⟩
noncomputable def fX14_add (D : PD) (cap : Nat × Nat) (a0 : Nat) (a1 : Int32) (a2 : Nat) (h : PH) : Option (PH) :=
  vA (pF h a0 14 1) fun p1 =>
  ckc (pCls h p1) 23 <|
  bnd (fJ15_append D cap p1 a1 h) fun p2 h1 =>
  vA (pF h1 a0 14 0) fun p3 =>
  ckc (pCls h1 p3) 21 <|
  bnd (fJ2_add D cap p3 (some a2) h1) fun r1 h2 =>
  some h2
set_option maxHeartbeats 1000000 in
theorem kX14_add {l : Launch} {D : PD} {A : Nat → Prop} {cap : Nat × Nat} {a0 : Nat} {a1 : Int32} {a2 : Nat} {h h' : PH} (hf : fX14_add D cap a0 a1 a2 h = some h') : CMet l D A cap yX14_add cX14_add 3 none 8 [.ref a0, .int a1, .ref a2] h h' (none) := by
  unfold fX14_add at hf
  refine p_head (own := RX14) (ini := false) (pn_X14 rfl) rfl (fun q => by cases q) (Nat.le_of_ble_eq_true rfl) (fun m Z cx sx H0 ls X hM hl => ?_)
  have G := X.g
  have hl : lv_has ls 3 [(0, .ref a0), (1, .int a1), (2, .ref a2)] := hl
  refine g_aload_n G dX14_add_0 rfl (lv_at hl 0 rfl) ?_
  obtain ⟨p1, g1, hf⟩ := vA_open hf
  refine p_get (k := 1) X hM pc_14 (by decide) q1039 rfl g1 dX14_add_1 ?_
  refine g_iload_n G dX14_add_4 rfl (lv_at hl 1 rfl) ?_
  obtain ⟨b1, hf⟩ := ckc_open hf
  obtain ⟨p2, h1, g2, hf⟩ := bnd_open hf
  refine p_callV_r (ci := 23) (As := [.int a1]) (rest := []) X hM hl rfl b1 pcy_J15_append q1123 q1124 q1125 (kJ15_append g2) rfl (Nat.le_of_ble_eq_true rfl) (Nat.le_of_ble_eq_true rfl) rfl dX14_add_5 (fun H locs hM => ?_)
  refine g_pop G dX14_add_8 rfl ?_
  refine g_aload_n G dX14_add_9 rfl (lv_at hl 0 rfl) ?_
  obtain ⟨p3, g3, hf⟩ := vA_open hf
  refine p_get (k := 0) X hM pc_14 (by decide) q1038 rfl g3 dX14_add_10 ?_
  refine g_aload_n G dX14_add_13 rfl (lv_at hl 2 rfl) ?_
  obtain ⟨b2, hf⟩ := ckc_open hf
  obtain ⟨r1, h2, g4, hf⟩ := bnd_open hf
  refine p_callF_r (As := [va_rf (some a2)]) (rest := []) X hM hl b2 pcy_J2_add (fun U hK => hK.1.2.2.1.2.2) ⟨by decide +kernel, by decide +kernel, by decide +kernel⟩ q1179 q814 q812 (kJ2_add g4) rfl (Nat.le_of_ble_eq_true rfl) (Nat.le_of_ble_eq_true rfl) rfl dX14_add_14 (fun H locs hM => ?_)
  refine g_pop G dX14_add_19 rfl ?_
  exact p_vret X hM hf dX14_add_20
theorem pcy_X12_init : pcY yX12_init cX12_init 1 none 0 := ⟨q997, q172, ⟨by decide +kernel, by decide +kernel, by decide +kernel⟩, Nat.le_of_ble_eq_true rfl⟩
noncomputable def fX12_init (a0 : Nat) (h : PH) : Option (PH) :=
  bnv (fX9_init a0 h) fun h1 =>
  some h1
set_option maxHeartbeats 1000000 in
theorem kX12_init {l : Launch} {D : PD} {A : Nat → Prop} {cap : Nat × Nat} {a0 : Nat} {h h' : PH} (hf : fX12_init a0 h = some h') : CMet l D A cap yX12_init cX12_init 1 none 3 [.ref a0] h h' (none) := by
  unfold fX12_init at hf
  refine p_head (own := RX12) (ini := true) (pn_X12 rfl) rfl (fun q => rfl) (Nat.le_of_ble_eq_true rfl) (fun m Z cx sx H0 ls X hM hl => ?_)
  have G := X.g
  have hl : lv_has ls 1 [(0, .ref a0)] := hl
  refine g_aload_n G dX12_init_0 rfl (lv_at hl 0 rfl) ?_
  obtain ⟨h1, g1, hf⟩ := bnv_open hf
  refine p_callIN_v (As := []) (rest := []) X hM hl pcy_X9_init rfl q998 q948 (kX9_init g1) rfl (Nat.le_of_ble_eq_true rfl) (Nat.le_of_ble_eq_true rfl) rfl dX12_init_1 (fun H locs hM => ?_)
  exact p_vret X hM hf dX12_init_4
theorem pcy_X19_init : pcY yX19_init cX19_init 4 none 3 := ⟨q1188, q181, ⟨by decide +kernel, by decide +kernel, by decide +kernel⟩, Nat.le_of_ble_eq_true rfl⟩
noncomputable def fX19_init (a0 : Nat) (a1 : Nat) (a2 : Int32) (a3 : Nat) (h : PH) : Option (PH) :=
  bnv (fX9_init a0 h) fun h1 =>
  bnv (pPut h1 a0 19 0 (.ref a1)) fun h2 =>
  bnv (pPut h2 a0 19 2 (.int a2)) fun h3 =>
  bnv (pPut h3 a0 19 1 (.ref a3)) fun h4 =>
  some h4
set_option maxHeartbeats 1000000 in
theorem kX19_init {l : Launch} {D : PD} {A : Nat → Prop} {cap : Nat × Nat} {a0 : Nat} {a1 : Nat} {a2 : Int32} {a3 : Nat} {h h' : PH} (hf : fX19_init a0 a1 a2 a3 h = some h') : CMet l D A cap yX19_init cX19_init 4 none 3 [.ref a0, .ref a1, .int a2, .ref a3] h h' (none) := by
  unfold fX19_init at hf
  refine p_head (own := RX19) (ini := true) (pn_X19 rfl) rfl (fun q => rfl) (Nat.le_of_ble_eq_true rfl) (fun m Z cx sx H0 ls X hM hl => ?_)
  have G := X.g
  have hl : lv_has ls 4 [(0, .ref a0), (1, .ref a1), (2, .int a2), (3, .ref a3)] := hl
  refine g_aload_n G dX19_init_0 rfl (lv_at hl 0 rfl) ?_
  obtain ⟨h1, g1, hf⟩ := bnv_open hf
  refine p_callIN_v (As := []) (rest := []) X hM hl pcy_X9_init rfl q1189 q948 (kX9_init g1) rfl (Nat.le_of_ble_eq_true rfl) (Nat.le_of_ble_eq_true rfl) rfl dX19_init_1 (fun H locs hM => ?_)
  refine g_aload_n G dX19_init_4 rfl (lv_at hl 0 rfl) ?_
  refine g_aload_n G dX19_init_5 rfl (lv_at hl 1 rfl) ?_
  obtain ⟨h2, g2, hf⟩ := bnv_open hf
  refine p_putF (k := 0) X hM pc_19 (by decide) q1190 rfl rfl rfl rfl rfl g2 dX19_init_6 (fun H locs hM => ?_)
  refine g_aload_n G dX19_init_9 rfl (lv_at hl 0 rfl) ?_
  refine g_iload_n G dX19_init_10 rfl (lv_at hl 2 rfl) ?_
  obtain ⟨h3, g3, hf⟩ := bnv_open hf
  refine p_putF (k := 2) X hM pc_19 (by decide) q1192 rfl rfl rfl rfl rfl g3 dX19_init_11 (fun H locs hM => ?_)
  refine g_aload_n G dX19_init_14 rfl (lv_at hl 0 rfl) ?_
  refine g_aload_n G dX19_init_15 rfl (lv_at hl 3 rfl) ?_
  obtain ⟨h4, g4, hf⟩ := bnv_open hf
  refine p_putF (k := 1) X hM pc_19 (by decide) q1191 rfl rfl rfl rfl rfl g4 dX19_init_16 (fun H locs hM => ?_)
  exact p_vret X hM hf dX19_init_19
theorem pcy_X11_init : pcY yX11_init cX11_init 2 none 1 := ⟨q986, q171, ⟨by decide +kernel, by decide +kernel, by decide +kernel⟩, Nat.le_of_ble_eq_true rfl⟩
noncomputable def fX11_init (a0 : Nat) (a1 : Nat) (h : PH) : Option (PH) :=
  bnv (fX9_init a0 h) fun h1 =>
  bnv (pPut h1 a0 11 0 (.ref a1)) fun h2 =>
  some h2
set_option maxHeartbeats 1000000 in
theorem kX11_init {l : Launch} {D : PD} {A : Nat → Prop} {cap : Nat × Nat} {a0 : Nat} {a1 : Nat} {h h' : PH} (hf : fX11_init a0 a1 h = some h') : CMet l D A cap yX11_init cX11_init 2 none 3 [.ref a0, .ref a1] h h' (none) := by
  unfold fX11_init at hf
  refine p_head (own := RX11) (ini := true) (pn_X11 rfl) rfl (fun q => rfl) (Nat.le_of_ble_eq_true rfl) (fun m Z cx sx H0 ls X hM hl => ?_)
  have G := X.g
  have hl : lv_has ls 2 [(0, .ref a0), (1, .ref a1)] := hl
  refine g_aload_n G dX11_init_0 rfl (lv_at hl 0 rfl) ?_
  obtain ⟨h1, g1, hf⟩ := bnv_open hf
  refine p_callIN_v (As := []) (rest := []) X hM hl pcy_X9_init rfl q987 q948 (kX9_init g1) rfl (Nat.le_of_ble_eq_true rfl) (Nat.le_of_ble_eq_true rfl) rfl dX11_init_1 (fun H locs hM => ?_)
  refine g_aload_n G dX11_init_4 rfl (lv_at hl 0 rfl) ?_
  refine g_aload_n G dX11_init_5 rfl (lv_at hl 1 rfl) ?_
  obtain ⟨h2, g2, hf⟩ := bnv_open hf
  refine p_putF (k := 0) X hM pc_11 (by decide) q988 rfl rfl rfl rfl rfl g2 dX11_init_6 (fun H locs hM => ?_)
  exact p_vret X hM hf dX11_init_9
theorem pcy_X10_init : pcY yX10_init cX10_init 2 none 1 := ⟨q946, q170, ⟨by decide +kernel, by decide +kernel, by decide +kernel⟩, Nat.le_of_ble_eq_true rfl⟩
noncomputable def fX10_init (D : PD) (cap : Nat × Nat) (a0 : Nat) (a1 : Bool) (h : PH) : Option (PH) :=
  bnv (fX9_init a0 h) fun h1 =>
  bnd (pNew cap h1 (.inr (21, [.int 0, .null, .int 0])) 3) fun p1 h2 =>
  bnv (fJ2_init D cap p1 2 h2) fun h3 =>
  bnv (pPut h3 a0 10 0 (.ref p1)) fun h4 =>
  bnv (pPut h4 a0 10 1 (.int (bI a1))) fun h5 =>
  some h5
set_option maxHeartbeats 1000000 in
theorem kX10_init {l : Launch} {D : PD} {A : Nat → Prop} {cap : Nat × Nat} {a0 : Nat} {a1 : Bool} {h h' : PH} (hf : fX10_init D cap a0 a1 h = some h') : CMet l D A cap yX10_init cX10_init 2 none 5 [.ref a0, .int (bI a1)] h h' (none) := by
  unfold fX10_init at hf
  refine p_head (own := RX10) (ini := true) (pn_X10 rfl) rfl (fun q => rfl) (Nat.le_of_ble_eq_true rfl) (fun m Z cx sx H0 ls X hM hl => ?_)
  have G := X.g
  have hl : lv_has ls 2 [(0, .ref a0), (1, .int (bI a1))] := hl
  refine g_aload_n G dX10_init_0 rfl (lv_at hl 0 rfl) ?_
  obtain ⟨h1, g1, hf⟩ := bnv_open hf
  refine p_callIN_v (As := []) (rest := []) X hM hl pcy_X9_init rfl q947 q948 (kX9_init g1) rfl (Nat.le_of_ble_eq_true rfl) (Nat.le_of_ble_eq_true rfl) rfl dX10_init_1 (fun H locs hM => ?_)
  refine g_aload_n G dX10_init_4 rfl (lv_at hl 0 rfl) ?_
  obtain ⟨p1, h2, g2, hf⟩ := bnd_open hf
  refine p_new X hM pc_21 q951 q199 q149 (by decide +kernel) g2 dX10_init_5 (fun H locs hM => ?_)
  refine g_dup G dX10_init_8 rfl ?_
  refine g_iconst (v := 2) G dX10_init_9 rfl ?_
  obtain ⟨h3, g3, hf⟩ := bnv_open hf
  refine p_callI_v (As := [.int 2]) (rest := [.ref p1, .ref a0]) X hM hl pcy_J2_init rfl q952 q201 (kJ2_init g3) rfl (Nat.le_of_ble_eq_true rfl) (Nat.le_of_ble_eq_true rfl) rfl dX10_init_10 (fun H locs hM => ?_)
  obtain ⟨h4, g4, hf⟩ := bnv_open hf
  refine p_putF (k := 0) X hM pc_10 (by decide) q953 rfl rfl rfl rfl rfl g4 dX10_init_13 (fun H locs hM => ?_)
  refine g_aload_n G dX10_init_16 rfl (lv_at hl 0 rfl) ?_
  refine g_iload_n G dX10_init_17 rfl (lv_at hl 1 rfl) ?_
  obtain ⟨h5, g5, hf⟩ := bnv_open hf
  refine p_putF (k := 1) X hM pc_10 (by decide) q955 rfl rfl rfl (bI_nar _) (bI_fit _) g5 dX10_init_18 (fun H locs hM => ?_)
  exact p_vret X hM hf dX10_init_21
theorem pcy_X18_init : pcY yX18_init cX18_init 4 none 3 := ⟨q1105, q180, ⟨by decide +kernel, by decide +kernel, by decide +kernel⟩, Nat.le_of_ble_eq_true rfl⟩
noncomputable def fX18_init (a0 : Nat) (a1 : Nat) (a2 : Int32) (a3 : Nat) (h : PH) : Option (PH) :=
  bnv (pPut h a0 18 2 (.ref a1)) fun h1 =>
  bnv (fX13_init a0 h1) fun h2 =>
  bnv (pPut h2 a0 18 0 (.int a2)) fun h3 =>
  bnv (pPut h3 a0 18 1 (.ref a3)) fun h4 =>
  some h4
set_option maxHeartbeats 1000000 in
theorem kX18_init {l : Launch} {D : PD} {A : Nat → Prop} {cap : Nat × Nat} {a0 : Nat} {a1 : Nat} {a2 : Int32} {a3 : Nat} {h h' : PH} (hf : fX18_init a0 a1 a2 a3 h = some h') : CMet l D A cap yX18_init cX18_init 4 none 3 [.ref a0, .ref a1, .int a2, .ref a3] h h' (none) := by
  unfold fX18_init at hf
  refine p_head (own := RX18) (ini := true) (pn_X18 rfl) rfl (fun q => rfl) (Nat.le_of_ble_eq_true rfl) (fun m Z cx sx H0 ls X hM hl => ?_)
  have G := X.g
  have hl : lv_has ls 4 [(0, .ref a0), (1, .ref a1), (2, .int a2), (3, .ref a3)] := hl
  refine g_aload_n G dX18_init_0 rfl (lv_at hl 0 rfl) ?_
  refine g_aload_n G dX18_init_1 rfl (lv_at hl 1 rfl) ?_
  obtain ⟨h1, g1, hf⟩ := bnv_open hf
  refine p_putF (k := 2) X hM pc_18 (by decide) q1109 rfl rfl rfl rfl rfl g1 dX18_init_2 (fun H locs hM => ?_)
  refine g_aload_n G dX18_init_5 rfl (lv_at hl 0 rfl) ?_
  obtain ⟨h2, g2, hf⟩ := bnv_open hf
  refine p_callIN_v (As := []) (rest := []) X hM hl pcy_X13_init rfl q1106 q1010 (kX13_init g2) rfl (Nat.le_of_ble_eq_true rfl) (Nat.le_of_ble_eq_true rfl) rfl dX18_init_6 (fun H locs hM => ?_)
  refine g_aload_n G dX18_init_9 rfl (lv_at hl 0 rfl) ?_
  refine g_iload_n G dX18_init_10 rfl (lv_at hl 2 rfl) ?_
  obtain ⟨h3, g3, hf⟩ := bnv_open hf
  refine p_putF (k := 0) X hM pc_18 (by decide) q1107 rfl rfl rfl rfl rfl g3 dX18_init_11 (fun H locs hM => ?_)
  refine g_aload_n G dX18_init_14 rfl (lv_at hl 0 rfl) ?_
  refine g_aload_n G dX18_init_15 rfl (lv_at hl 3 rfl) ?_
  obtain ⟨h4, g4, hf⟩ := bnv_open hf
  refine p_putF (k := 1) X hM pc_18 (by decide) q1108 rfl rfl rfl rfl rfl g4 dX18_init_16 (fun H locs hM => ?_)
  exact p_vret X hM hf dX18_init_19
theorem pcy_X20_init : pcY yX20_init cX20_init 4 none 3 := ⟨q1560, q183, ⟨by decide +kernel, by decide +kernel, by decide +kernel⟩, Nat.le_of_ble_eq_true rfl⟩
noncomputable def fX20_init (a0 : Nat) (a1 : Int32) (a2 : Option Nat) (a3 : Option Nat) (h : PH) : Option (PH) :=
  bnv (pPut h a0 20 3 (.long ((-1)))) fun h1 =>
  bnv (pPut h1 a0 20 0 (.int a1)) fun h2 =>
  bnv (pPut h2 a0 20 1 (va_rf a2)) fun h3 =>
  bnv (pPut h3 a0 20 2 (va_rf a3)) fun h4 =>
  some h4
set_option maxHeartbeats 1000000 in
theorem kX20_init {l : Launch} {D : PD} {A : Nat → Prop} {cap : Nat × Nat} {a0 : Nat} {a1 : Int32} {a2 : Option Nat} {a3 : Option Nat} {h h' : PH} (hf : fX20_init a0 a1 a2 a3 h = some h') : CMet l D A cap yX20_init cX20_init 4 none 2 [.ref a0, .int a1, va_rf a2, va_rf a3] h h' (none) := by
  unfold fX20_init at hf
  refine p_head (own := RX20) (ini := true) (pn_X20 rfl) rfl (fun q => rfl) (by simp [lg_sl, cat_q, cat_i, cat_l, cat_r]) (fun m Z cx sx H0 ls X hM hl => ?_)
  have G := X.g
  have hl : lv_has ls 4 [(0, .ref a0), (1, .int a1), (2, va_rf a2), (3, va_rf a3)] := by simpa [lv_args, cat_q, cat_i, cat_l, cat_r] using hl
  refine g_aload_n G dX20_init_0 rfl (lv_at hl 0 rfl) ?_
  refine p_obj X hl q1561 q190 q191 (by decide) (Nat.le_of_ble_eq_true rfl) dX20_init_1 ?_
  refine g_aload_n G dX20_init_4 rfl (lv_at hl 0 rfl) ?_
  refine g_ldc2 G q1562 dX20_init_5 ?_
  obtain ⟨h1, g1, hf⟩ := bnv_open hf
  refine p_put (k := 3) X hM pc_20 (by decide) q1566 rfl rfl rfl rfl g1 dX20_init_8 (fun H locs hM => ?_)
  refine g_aload_n G dX20_init_11 rfl (lv_at hl 0 rfl) ?_
  refine g_iload_n G dX20_init_12 rfl (lv_at hl 1 rfl) ?_
  obtain ⟨h2, g2, hf⟩ := bnv_open hf
  refine p_putF (k := 0) X hM pc_20 (by decide) q1563 rfl rfl rfl rfl rfl g2 dX20_init_13 (fun H locs hM => ?_)
  refine g_aload_n G dX20_init_16 rfl (lv_at hl 0 rfl) ?_
  refine g_aload_nQ G dX20_init_17 rfl (lv_at hl 2 rfl) ?_
  obtain ⟨h3, g3, hf⟩ := bnv_open hf
  refine p_putF (k := 1) X hM pc_20 (by decide) q1564 rfl rfl rfl (nar_q _ _) (fit_q _ _) g3 dX20_init_18 (fun H locs hM => ?_)
  refine g_aload_n G dX20_init_21 rfl (lv_at hl 0 rfl) ?_
  refine g_aload_nQ G dX20_init_22 rfl (lv_at hl 3 rfl) ?_
  obtain ⟨h4, g4, hf⟩ := bnv_open hf
  refine p_putF (k := 2) X hM pc_20 (by decide) q1565 rfl rfl rfl (nar_q _ _) (fit_q _ _) g4 dX20_init_23 (fun H locs hM => ?_)
  exact p_vret X hM hf dX20_init_26
theorem pcy_X7_init : pcY yX7_init cX7_init 3 none 2 := ⟨q798, q163, ⟨by decide +kernel, by decide +kernel, by decide +kernel⟩, Nat.le_of_ble_eq_true rfl⟩
noncomputable def fX7_init (a0 : Nat) (a1 : Nat) (a2 : Int32) (h : PH) : Option (PH) :=
  bnv (pPut h a0 7 0 (.ref a1)) fun h1 =>
  bnv (pPut h1 a0 7 1 (.int a2)) fun h2 =>
  some h2
set_option maxHeartbeats 1000000 in
theorem kX7_init {l : Launch} {D : PD} {A : Nat → Prop} {cap : Nat × Nat} {a0 : Nat} {a1 : Nat} {a2 : Int32} {h h' : PH} (hf : fX7_init a0 a1 a2 h = some h') : CMet l D A cap yX7_init cX7_init 3 none 2 [.ref a0, .ref a1, .int a2] h h' (none) := by
  unfold fX7_init at hf
  refine p_head (own := RX7) (ini := true) (pn_X7 rfl) rfl (fun q => rfl) (Nat.le_of_ble_eq_true rfl) (fun m Z cx sx H0 ls X hM hl => ?_)
  have G := X.g
  have hl : lv_has ls 3 [(0, .ref a0), (1, .ref a1), (2, .int a2)] := hl
  refine g_aload_n G dX7_init_0 rfl (lv_at hl 0 rfl) ?_
  refine p_obj X hl q799 q190 q191 (by decide) (Nat.le_of_ble_eq_true rfl) dX7_init_1 ?_
  refine g_aload_n G dX7_init_4 rfl (lv_at hl 0 rfl) ?_
  refine g_aload_n G dX7_init_5 rfl (lv_at hl 1 rfl) ?_
  obtain ⟨h1, g1, hf⟩ := bnv_open hf
  refine p_putF (k := 0) X hM pc_7 (by decide) q800 rfl rfl rfl rfl rfl g1 dX7_init_6 (fun H locs hM => ?_)
  refine g_aload_n G dX7_init_9 rfl (lv_at hl 0 rfl) ?_
  refine g_iload_n G dX7_init_10 rfl (lv_at hl 2 rfl) ?_
  obtain ⟨h2, g2, hf⟩ := bnv_open hf
  refine p_putF (k := 1) X hM pc_7 (by decide) q801 rfl rfl rfl rfl rfl g2 dX7_init_11 (fun H locs hM => ?_)
  exact p_vret X hM hf dX7_init_14
noncomputable def fX7_init_P (a0 : Nat) (a1 : Nat) (a2 : Int32) (h : PH) : Option (PH) :=
  bnv (pPut h a0 8 0 (.ref a1)) fun h1 =>
  bnv (pPut h1 a0 8 1 (.int a2)) fun h2 =>
  some h2
set_option maxHeartbeats 1000000 in
theorem kX7_init_P {l : Launch} {D : PD} {A : Nat → Prop} {cap : Nat × Nat} {a0 : Nat} {a1 : Nat} {a2 : Int32} {h h' : PH} (hf : fX7_init_P a0 a1 a2 h = some h') : CMet l D A cap yX7_init cX7_init 3 none 2 [.ref a0, .ref a1, .int a2] h h' (none) := by
  unfold fX7_init_P at hf
  refine p_head (own := RX7) (ini := true) (pn_X7 rfl) rfl (fun q => rfl) (Nat.le_of_ble_eq_true rfl) (fun m Z cx sx H0 ls X hM hl => ?_)
  have G := X.g
  have hl : lv_has ls 3 [(0, .ref a0), (1, .ref a1), (2, .int a2)] := hl
  refine g_aload_n G dX7_init_0 rfl (lv_at hl 0 rfl) ?_
  refine p_obj X hl q799 q190 q191 (by decide) (Nat.le_of_ble_eq_true rfl) dX7_init_1 ?_
  refine g_aload_n G dX7_init_4 rfl (lv_at hl 0 rfl) ?_
  refine g_aload_n G dX7_init_5 rfl (lv_at hl 1 rfl) ?_
  obtain ⟨h1, g1, hf⟩ := bnv_open hf
  refine p_putF (k := 0) X hM pc_8 (by decide) q800 rfl rfl rfl rfl rfl g1 dX7_init_6 (fun H locs hM => ?_)
  refine g_aload_n G dX7_init_9 rfl (lv_at hl 0 rfl) ?_
  refine g_iload_n G dX7_init_10 rfl (lv_at hl 2 rfl) ?_
  obtain ⟨h2, g2, hf⟩ := bnv_open hf
  refine p_putF (k := 1) X hM pc_8 (by decide) q801 rfl rfl rfl rfl rfl g2 dX7_init_11 (fun H locs hM => ?_)
  exact p_vret X hM hf dX7_init_14
theorem pcy_X8_init : pcY yX8_init cX8_init 3 none 2 := ⟨q888, q168, ⟨by decide +kernel, by decide +kernel, by decide +kernel⟩, Nat.le_of_ble_eq_true rfl⟩
noncomputable def fX8_init (a0 : Nat) (a1 : Nat) (a2 : Int32) (h : PH) : Option (PH) :=
  bnv (fX7_init_P a0 a1 a2 h) fun h1 =>
  bnv (pPut h1 a0 8 2 (.int (-1))) fun h2 =>
  some h2
set_option maxHeartbeats 1000000 in
theorem kX8_init {l : Launch} {D : PD} {A : Nat → Prop} {cap : Nat × Nat} {a0 : Nat} {a1 : Nat} {a2 : Int32} {h h' : PH} (hf : fX8_init a0 a1 a2 h = some h') : CMet l D A cap yX8_init cX8_init 3 none 3 [.ref a0, .ref a1, .int a2] h h' (none) := by
  unfold fX8_init at hf
  refine p_head (own := RX8) (ini := true) (pn_X8 rfl) rfl (fun q => rfl) (Nat.le_of_ble_eq_true rfl) (fun m Z cx sx H0 ls X hM hl => ?_)
  have G := X.g
  have hl : lv_has ls 3 [(0, .ref a0), (1, .ref a1), (2, .int a2)] := hl
  refine g_aload_n G dX8_init_0 rfl (lv_at hl 0 rfl) ?_
  refine g_aload_n G dX8_init_1 rfl (lv_at hl 1 rfl) ?_
  refine g_iload_n G dX8_init_2 rfl (lv_at hl 2 rfl) ?_
  obtain ⟨h1, g1, hf⟩ := bnv_open hf
  refine p_callI_v (As := [.ref a1, .int a2]) (rest := []) X hM hl pcy_X7_init rfl q889 q797 (kX7_init_P g1) rfl (Nat.le_of_ble_eq_true rfl) (Nat.le_of_ble_eq_true rfl) rfl dX8_init_3 (fun H locs hM => ?_)
  refine g_aload_n G dX8_init_6 rfl (lv_at hl 0 rfl) ?_
  refine g_iconst (v := (-1)) G dX8_init_7 rfl ?_
  obtain ⟨h2, g2, hf⟩ := bnv_open hf
  refine p_put (k := 2) X hM pc_8 (by decide) q890 rfl rfl rfl rfl g2 dX8_init_8 (fun H locs hM => ?_)
  exact p_vret X hM hf dX8_init_11
theorem pcy_X1_init : pcY yX1_init cX1_init 1 none 0 := ⟨q196, q146, ⟨by decide +kernel, by decide +kernel, by decide +kernel⟩, Nat.le_of_ble_eq_true rfl⟩
noncomputable def fX1_init (D : PD) (cap : Nat × Nat) (a0 : Nat) (h : PH) : Option (PH) :=
  bnv (pPut h a0 1 1 (.int 10)) fun h1 =>
  bnv (pPut h1 a0 1 2 (.int 3)) fun h2 =>
  bnd (pNew cap h2 (.inr (21, [.int 0, .null, .int 0])) 3) fun p1 h3 =>
  bnv (fJ2_init D cap p1 4 h3) fun h4 =>
  bnv (pPut h4 a0 1 4 (.ref p1)) fun h5 =>
  bnd (pNew cap h5 (.inr (21, [.int 0, .null, .int 0])) 3) fun p2 h6 =>
  bnv (fJ2_init D cap p2 4 h6) fun h7 =>
  bnv (pPut h7 a0 1 5 (.ref p2)) fun h8 =>
  some h8
set_option maxHeartbeats 1000000 in
theorem kX1_init {l : Launch} {D : PD} {A : Nat → Prop} {cap : Nat × Nat} {a0 : Nat} {h h' : PH} (hf : fX1_init D cap a0 h = some h') : CMet l D A cap yX1_init cX1_init 1 none 5 [.ref a0] h h' (none) := by
  unfold fX1_init at hf
  refine p_head (own := RX1) (ini := true) (pn_X1 rfl) rfl (fun q => rfl) (Nat.le_of_ble_eq_true rfl) (fun m Z cx sx H0 ls X hM hl => ?_)
  have G := X.g
  have hl : lv_has ls 1 [(0, .ref a0)] := hl
  refine g_aload_n G dX1_init_0 rfl (lv_at hl 0 rfl) ?_
  refine p_obj X hl q197 q190 q191 (by decide) (Nat.le_of_ble_eq_true rfl) dX1_init_1 ?_
  refine g_aload_n G dX1_init_4 rfl (lv_at hl 0 rfl) ?_
  refine g_bipush (v := 10) G dX1_init_5 rfl ?_
  obtain ⟨h1, g1, hf⟩ := bnv_open hf
  refine p_put (k := 1) X hM pc_1 (by decide) q228 rfl rfl rfl rfl g1 dX1_init_7 (fun H locs hM => ?_)
  refine g_aload_n G dX1_init_10 rfl (lv_at hl 0 rfl) ?_
  refine g_iconst (v := 3) G dX1_init_11 rfl ?_
  obtain ⟨h2, g2, hf⟩ := bnv_open hf
  refine p_put (k := 2) X hM pc_1 (by decide) q232 rfl rfl rfl rfl g2 dX1_init_12 (fun H locs hM => ?_)
  refine g_aload_n G dX1_init_15 rfl (lv_at hl 0 rfl) ?_
  obtain ⟨p1, h3, g3, hf⟩ := bnd_open hf
  refine p_new X hM pc_21 q198 q199 q149 (by decide +kernel) g3 dX1_init_16 (fun H locs hM => ?_)
  refine g_dup G dX1_init_19 rfl ?_
  refine g_iconst (v := 4) G dX1_init_20 rfl ?_
  obtain ⟨h4, g4, hf⟩ := bnv_open hf
  refine p_callI_v (As := [.int 4]) (rest := [.ref p1, .ref a0]) X hM hl pcy_J2_init rfl q200 q201 (kJ2_init g4) rfl (Nat.le_of_ble_eq_true rfl) (Nat.le_of_ble_eq_true rfl) rfl dX1_init_21 (fun H locs hM => ?_)
  obtain ⟨h5, g5, hf⟩ := bnv_open hf
  refine p_putF (k := 4) X hM pc_1 (by decide) q238 rfl rfl rfl rfl rfl g5 dX1_init_24 (fun H locs hM => ?_)
  refine g_aload_n G dX1_init_27 rfl (lv_at hl 0 rfl) ?_
  obtain ⟨p2, h6, g6, hf⟩ := bnd_open hf
  refine p_new X hM pc_21 q198 q199 q149 (by decide +kernel) g6 dX1_init_28 (fun H locs hM => ?_)
  refine g_dup G dX1_init_31 rfl ?_
  refine g_iconst (v := 4) G dX1_init_32 rfl ?_
  obtain ⟨h7, g7, hf⟩ := bnv_open hf
  refine p_callI_v (As := [.int 4]) (rest := [.ref p2, .ref a0]) X hM hl pcy_J2_init rfl q200 q201 (kJ2_init g7) rfl (Nat.le_of_ble_eq_true rfl) (Nat.le_of_ble_eq_true rfl) rfl dX1_init_33 (fun H locs hM => ?_)
  obtain ⟨h8, g8, hf⟩ := bnv_open hf
  refine p_putF (k := 5) X hM pc_1 (by decide) q241 rfl rfl rfl rfl rfl g8 dX1_init_36 (fun H locs hM => ?_)
  exact p_vret X hM hf dX1_init_39
theorem pcy_X1_isBy : pcY yX1_isBy cX1_isBy 4 (Option.some Jvm.ClassFile.FieldType.boolean) 2 := ⟨q920, q146, ⟨by decide +kernel, by decide +kernel, by decide +kernel⟩, Nat.le_of_ble_eq_true rfl⟩
noncomputable def fX1_isBy_L2 (a0 : Nat) (a2 : Int32) (k32 : Int32 → PH → Option (Bool × PH)) (s2 : Int32 → PH → Option (Bool × PH)) (x2 : Int32) (h2 : PH) : Option (Bool × PH) :=
  if x2 = ((-1) : Int32) then
    k32 x2 h2
  else
    if x2 = a2 then
      k32 x2 h2
    else
      vA (pF h2 a0 1 5) fun p1 =>
      ckc (pCls h2 p1) 21 <|
      bnd (fJ2_get p1 x2 h2) fun q1 h3 =>
      qS q1 fun n1 =>
      ckc (pCls h3 n1) 8 <|
      vI (pF h3 n1 8 2) fun v1 =>
      s2 v1 h3
noncomputable def fX1_isBy (a0 : Nat) (a1 : Int32) (a2 : Int32) (h : PH) : Option (Bool × PH) :=
  jn (fun (x1 : Int32) (h1 : PH) =>
    if x1 = a2 then
      some (true, h1)
    else
      some (false, h1)) fun k32 =>
  fx (fX1_isBy_L2 a0 a2 k32) (fun _ _ => none) FU a1 h
set_option maxHeartbeats 1000000 in
theorem kX1_isBy {l : Launch} {D : PD} {A : Nat → Prop} {cap : Nat × Nat} {a0 : Nat} {a1 : Int32} {a2 : Int32} {h h' : PH} {r : Bool} (hf : fX1_isBy a0 a1 a2 h = some (r, h')) : CMet l D A cap yX1_isBy cX1_isBy 4 (Option.some Jvm.ClassFile.FieldType.boolean) 4 [.ref a0, .int a1, .int a2] h h' (some (.int (bI r))) := by
  unfold fX1_isBy at hf
  refine p_head (own := RX1) (ini := false) (pn_X1 rfl) rfl (fun q => by cases q) (Nat.le_of_ble_eq_true rfl) (fun m Z cx sx H0 ls X hM hl => ?_)
  have G := X.g
  have hl : lv_has ls 4 [(0, .ref a0), (1, .int a1), (2, .int a2)] := hl
  refine g_iload_n G dX1_isBy_0 rfl (lv_at hl 1 rfl) ?_
  refine g_istore_n (i := 3) (lv' := [(3, .int a1), (0, .ref a0), (1, .int a1), (2, .int a2)]) G dX1_isBy_1 rfl hl (Nat.le_of_ble_eq_true rfl) rfl (fun ls hl => ?_)
  obtain ⟨k32, ek32, hf⟩ := jn_open hf
  have K32 : ∀ (x1 : Int32) (h1 : PH) (H : Heap) (locs : List Loc), k32 x1 h1 = some (r, h') → PI D A cap H0 h1 H locs → ∀ ls : Array Slot, lv_has ls 4 [(2, .int a2), (3, .int x1)] → Z H locs (cx H) (sx H) (F0 m 32 ls []) := by
    intro x1 h1 H locs hf hM ls hl
    rw [ek32] at hf
    refine g_iload_n G dX1_isBy_32 rfl (lv_at hl 1 rfl) ?_
    refine g_iload_n G dX1_isBy_33 rfl (lv_at hl 0 rfl) ?_
    refine g_icmp_ne (tgt := 41) G dX1_isBy_34 rfl (fun c1 => ?_) (fun c1 => ?_)
    · have hf := it_neg c1 hf
      refine g_iconst (v := 0) G dX1_isBy_41 rfl ?_
      exact p_zret X hM hf dX1_isBy_42
    · have hf := it_pos c1 hf
      refine g_iconst (v := 1) G dX1_isBy_37 rfl ?_
      refine g_goto (tgt := 42) G dX1_isBy_38 rfl ?_
      exact p_zret X hM hf dX1_isBy_42
  have L2 : ∀ (n : Nat) (x2 : Int32) (h2 : PH) (H : Heap) (locs : List Loc), fx (fX1_isBy_L2 a0 a2 k32) (fun _ _ => none) n x2 h2 = some (r, h') → PI D A cap H0 h2 H locs → ∀ ls : Array Slot, lv_has ls 4 [(0, .ref a0), (2, .int a2), (3, .int x2)] → Z H locs (cx H) (sx H) (F0 m 2 ls []) := by
    intro n
    induction n with
    | zero => intro x2 h2 H locs hf; exact absurd hf (by intro q; cases q)
    | succ n ih2 =>
      intro x2 h2 H locs hf hM ls hl
      rw [fx_s] at hf
      generalize fx (fX1_isBy_L2 a0 a2 k32) (fun _ _ => none) n = s2 at hf ih2
      unfold fX1_isBy_L2 at hf
      refine g_iload_n G dX1_isBy_2 rfl (lv_at hl 2 rfl) ?_
      refine g_iconst (v := (-1)) G dX1_isBy_3 rfl ?_
      refine g_icmp_eq (tgt := 32) G dX1_isBy_4 rfl (fun c2 => ?_) (fun c2 => ?_)
      · have hf := it_pos c2 hf
        exact K32 _ _ _ _ hf hM ls (lv_sub hl [1, 2] rfl)
      · have hf := it_neg c2 hf
        refine g_iload_n G dX1_isBy_7 rfl (lv_at hl 2 rfl) ?_
        refine g_iload_n G dX1_isBy_8 rfl (lv_at hl 1 rfl) ?_
        refine g_icmp_eq (tgt := 32) G dX1_isBy_9 rfl (fun c3 => ?_) (fun c3 => ?_)
        · have hf := it_pos c3 hf
          exact K32 _ _ _ _ hf hM ls (lv_sub hl [1, 2] rfl)
        · have hf := it_neg c3 hf
          refine g_aload_n G dX1_isBy_12 rfl (lv_at hl 0 rfl) ?_
          obtain ⟨p1, g1, hf⟩ := vA_open hf
          refine p_get (k := 5) X hM pc_1 (by decide) q241 rfl g1 dX1_isBy_13 ?_
          refine g_iload_n G dX1_isBy_16 rfl (lv_at hl 2 rfl) ?_
          obtain ⟨b1, hf⟩ := ckc_open hf
          obtain ⟨q1, h3, g2, hf⟩ := bnd_open hf
          refine p_callF_r (As := [.int x2]) (rest := []) X hM hl b1 pcy_J2_get (fun U hK => hK.1.2.2.1.2.1) ⟨by decide +kernel, by decide +kernel, by decide +kernel⟩ q922 q763 q761 (kJ2_get g2) rfl (Nat.le_of_ble_eq_true rfl) (Nat.le_of_ble_eq_true rfl) rfl dX1_isBy_17 (fun H locs hM => ?_)
          obtain ⟨n1, e1, hfq⟩ := qS_open hf
          clear hf; subst e1; have hf := hfq; clear hfq
          obtain ⟨b3, hf⟩ := ckc_open hf
          refine p_castS X hM (ci := 8) rfl q923 b3 dX1_isBy_22 ?_
          obtain ⟨v1, g3, hf⟩ := vI_open hf
          refine p_getN (k := 2) X hM pc_8 (by decide) q891 rfl g3 dX1_isBy_25 ?_
          refine g_istore_n (i := 3) (lv' := [(3, .int v1), (0, .ref a0), (2, .int a2)]) G dX1_isBy_28 rfl hl (Nat.le_of_ble_eq_true rfl) rfl (fun ls hl => ?_)
          refine g_goto (tgt := 2) G dX1_isBy_29 rfl ?_
          exact ih2 _ _ _ _ hf hM ls (lv_sub hl [1, 2, 0] rfl)
  exact L2 FU _ _ _ _ hf hM ls (lv_sub hl [1, 3, 0] rfl)
theorem pcy_X5_init : pcY yX5_init cX5_init 2 none 1 := ⟨q392, q156, ⟨by decide +kernel, by decide +kernel, by decide +kernel⟩, Nat.le_of_ble_eq_true rfl⟩
noncomputable def fX5_init (cap : Nat × Nat) (a0 : Nat) (a1 : Nat) (h : PH) : Option (PH) :=
  bnv (pPut h a0 5 11 (.ref a1)) fun h1 =>
  ck (!decide ((8 : Int32) < 0) && decide ((Int32.toNatClampNeg 8) ≤ 100000)) <|
  bnd (pNew cap h1 (.inl (0, (Int32.toNatClampNeg 8), .inl (fun _ => 0))) (Int32.toNatClampNeg 8)) fun p1 h2 =>
  bnv (pPut h2 a0 5 4 (.ref p1)) fun h3 =>
  ck (!decide ((8 : Int32) < 0) && decide ((Int32.toNatClampNeg 8) ≤ 100000)) <|
  bnd (pNew cap h3 (.inl (0, (Int32.toNatClampNeg 8), .inl (fun _ => 0))) (Int32.toNatClampNeg 8)) fun p2 h4 =>
  bnv (pPut h4 a0 5 5 (.ref p2)) fun h5 =>
  ck (!decide ((8 : Int32) < 0) && decide ((Int32.toNatClampNeg 8) ≤ 100000)) <|
  bnd (pNew cap h5 (.inl (0, (Int32.toNatClampNeg 8), .inl (fun _ => 0))) (Int32.toNatClampNeg 8)) fun p3 h6 =>
  bnv (pPut h6 a0 5 6 (.ref p3)) fun h7 =>
  ck (!decide ((8 : Int32) < 0) && decide ((Int32.toNatClampNeg 8) ≤ 100000)) <|
  bnd (pNew cap h7 (.inl (0, (Int32.toNatClampNeg 8), .inl (fun _ => 0))) (Int32.toNatClampNeg 8)) fun p4 h8 =>
  bnv (pPut h8 a0 5 7 (.ref p4)) fun h9 =>
  bnd (pMul cap h9 30 3) fun p5 h10 =>
  bnv (pPut h10 a0 5 8 (.ref p5)) fun h11 =>
  ck (!decide ((8 : Int32) < 0) && decide ((Int32.toNatClampNeg 8) ≤ 100000)) <|
  bnd (pNew cap h11 (.inl (0, (Int32.toNatClampNeg 8), .inl (fun _ => 0))) (Int32.toNatClampNeg 8)) fun p6 h12 =>
  bnv (pPut h12 a0 5 9 (.ref p6)) fun h13 =>
  some h13
set_option maxHeartbeats 1000000 in
theorem kX5_init {l : Launch} {D : PD} {A : Nat → Prop} {cap : Nat × Nat} {a0 : Nat} {a1 : Nat} {h h' : PH} (hf : fX5_init cap a0 a1 h = some h') : CMet l D A cap yX5_init cX5_init 2 none 2 [.ref a0, .ref a1] h h' (none) := by
  unfold fX5_init at hf
  refine p_head (own := RX5) (ini := true) (pn_X5 rfl) rfl (fun q => rfl) (Nat.le_of_ble_eq_true rfl) (fun m Z cx sx H0 ls X hM hl => ?_)
  have G := X.g
  have hl : lv_has ls 2 [(0, .ref a0), (1, .ref a1)] := hl
  refine g_aload_n G dX5_init_0 rfl (lv_at hl 0 rfl) ?_
  refine g_aload_n G dX5_init_1 rfl (lv_at hl 1 rfl) ?_
  obtain ⟨h1, g1, hf⟩ := bnv_open hf
  refine p_putF (k := 11) X hM pc_5 (by decide) q416 rfl rfl rfl rfl rfl g1 dX5_init_2 (fun H locs hM => ?_)
  refine g_aload_n G dX5_init_5 rfl (lv_at hl 0 rfl) ?_
  refine p_obj X hl q393 q190 q191 (by decide) (Nat.le_of_ble_eq_true rfl) dX5_init_6 ?_
  refine g_aload_n G dX5_init_9 rfl (lv_at hl 0 rfl) ?_
  refine g_bipush (v := 8) G dX5_init_10 rfl ?_
  obtain ⟨b1, hf⟩ := ck_open hf
  obtain ⟨p1, h2, g2, hf⟩ := bnd_open hf
  refine p_newI X hM b1 g2 dX5_init_12 (fun H locs hM => ?_)
  obtain ⟨h3, g3, hf⟩ := bnv_open hf
  refine p_putF (k := 4) X hM pc_5 (by decide) q404 rfl rfl rfl rfl rfl g3 dX5_init_14 (fun H locs hM => ?_)
  refine g_aload_n G dX5_init_17 rfl (lv_at hl 0 rfl) ?_
  refine g_bipush (v := 8) G dX5_init_18 rfl ?_
  obtain ⟨b2, hf⟩ := ck_open hf
  obtain ⟨p2, h4, g4, hf⟩ := bnd_open hf
  refine p_newI X hM b2 g4 dX5_init_20 (fun H locs hM => ?_)
  obtain ⟨h5, g5, hf⟩ := bnv_open hf
  refine p_putF (k := 5) X hM pc_5 (by decide) q406 rfl rfl rfl rfl rfl g5 dX5_init_22 (fun H locs hM => ?_)
  refine g_aload_n G dX5_init_25 rfl (lv_at hl 0 rfl) ?_
  refine g_bipush (v := 8) G dX5_init_26 rfl ?_
  obtain ⟨b3, hf⟩ := ck_open hf
  obtain ⟨p3, h6, g6, hf⟩ := bnd_open hf
  refine p_newI X hM b3 g6 dX5_init_28 (fun H locs hM => ?_)
  obtain ⟨h7, g7, hf⟩ := bnv_open hf
  refine p_putF (k := 6) X hM pc_5 (by decide) q408 rfl rfl rfl rfl rfl g7 dX5_init_30 (fun H locs hM => ?_)
  refine g_aload_n G dX5_init_33 rfl (lv_at hl 0 rfl) ?_
  refine g_bipush (v := 8) G dX5_init_34 rfl ?_
  obtain ⟨b4, hf⟩ := ck_open hf
  obtain ⟨p4, h8, g8, hf⟩ := bnd_open hf
  refine p_newI X hM b4 g8 dX5_init_36 (fun H locs hM => ?_)
  obtain ⟨h9, g9, hf⟩ := bnv_open hf
  refine p_putF (k := 7) X hM pc_5 (by decide) q410 rfl rfl rfl rfl rfl g9 dX5_init_38 (fun H locs hM => ?_)
  refine g_aload_n G dX5_init_41 rfl (lv_at hl 0 rfl) ?_
  refine g_bipush (v := 30) G dX5_init_42 rfl ?_
  refine g_iconst (v := 3) G dX5_init_44 rfl ?_
  obtain ⟨p5, h10, g10, hf⟩ := bnd_open hf
  refine p_multi X hM q394 g10 dX5_init_45 (fun H locs hM => ?_)
  obtain ⟨h11, g11, hf⟩ := bnv_open hf
  refine p_putF (k := 8) X hM pc_5 (by decide) q412 rfl rfl rfl rfl rfl g11 dX5_init_49 (fun H locs hM => ?_)
  refine g_aload_n G dX5_init_52 rfl (lv_at hl 0 rfl) ?_
  refine g_bipush (v := 8) G dX5_init_53 rfl ?_
  obtain ⟨b5, hf⟩ := ck_open hf
  obtain ⟨p6, h12, g12, hf⟩ := bnd_open hf
  refine p_newI X hM b5 g12 dX5_init_55 (fun H locs hM => ?_)
  obtain ⟨h13, g13, hf⟩ := bnv_open hf
  refine p_putF (k := 9) X hM pc_5 (by decide) q414 rfl rfl rfl rfl rfl g13 dX5_init_57 (fun H locs hM => ?_)
  exact p_vret X hM hf dX5_init_60
theorem pcy_X2_init : pcY yX2_init cX2_init 2 none 1 := ⟨q274, q150, ⟨by decide +kernel, by decide +kernel, by decide +kernel⟩, Nat.le_of_ble_eq_true rfl⟩
noncomputable def fX2_init (D : PD) (cap : Nat × Nat) (a0 : Nat) (a1 : Nat) (h : PH) : Option (PH) :=
  bnv (pPut h a0 2 7 (.ref a1)) fun h1 =>
  bnd (pNew cap h1 (.inr (3, [.null, .null, .null, .null, .null, .int 0, .int 0, .int 0])) 8) fun p1 h2 =>
  bnv (fX3_init D p1 h2) fun h3 =>
  bnv (pPut h3 a0 2 0 (.ref p1)) fun h4 =>
  some h4
set_option maxHeartbeats 1000000 in
theorem kX2_init {l : Launch} {D : PD} {A : Nat → Prop} {cap : Nat × Nat} {a0 : Nat} {a1 : Nat} {h h' : PH} (hf : fX2_init D cap a0 a1 h = some h') : CMet l D A cap yX2_init cX2_init 2 none 6 [.ref a0, .ref a1] h h' (none) := by
  unfold fX2_init at hf
  refine p_head (own := RX2) (ini := true) (pn_X2 rfl) rfl (fun q => rfl) (Nat.le_of_ble_eq_true rfl) (fun m Z cx sx H0 ls X hM hl => ?_)
  have G := X.g
  have hl : lv_has ls 2 [(0, .ref a0), (1, .ref a1)] := hl
  refine g_aload_n G dX2_init_0 rfl (lv_at hl 0 rfl) ?_
  refine g_aload_n G dX2_init_1 rfl (lv_at hl 1 rfl) ?_
  obtain ⟨h1, g1, hf⟩ := bnv_open hf
  refine p_putF (k := 7) X hM pc_2 (by decide) q356 rfl rfl rfl rfl rfl g1 dX2_init_2 (fun H locs hM => ?_)
  refine g_aload_n G dX2_init_5 rfl (lv_at hl 0 rfl) ?_
  refine p_obj X hl q275 q190 q191 (by decide) (Nat.le_of_ble_eq_true rfl) dX2_init_6 ?_
  refine g_aload_n G dX2_init_9 rfl (lv_at hl 0 rfl) ?_
  obtain ⟨p1, h2, g2, hf⟩ := bnd_open hf
  refine p_new X hM pc_3 q276 q277 q154 (by decide +kernel) g2 dX2_init_10 (fun H locs hM => ?_)
  refine g_dup G dX2_init_13 rfl ?_
  obtain ⟨h3, g3, hf⟩ := bnv_open hf
  refine p_callI_v (As := []) (rest := [.ref p1, .ref a0]) X hM hl pcy_X3_init rfl q315 q316 (kX3_init g3) rfl (Nat.le_of_ble_eq_true rfl) (Nat.le_of_ble_eq_true rfl) rfl dX2_init_14 (fun H locs hM => ?_)
  obtain ⟨h4, g4, hf⟩ := bnv_open hf
  refine p_putF (k := 0) X hM pc_2 (by decide) q349 rfl rfl rfl rfl rfl g4 dX2_init_17 (fun H locs hM => ?_)
  exact p_vret X hM hf dX2_init_20
theorem pcy_X7_find : pcY yX7_find cX7_find 3 (Option.some Jvm.ClassFile.FieldType.int) 2 := ⟨q754, q163, ⟨by decide +kernel, by decide +kernel, by decide +kernel⟩, Nat.le_of_ble_eq_true rfl⟩
noncomputable def fX7_find_L2 (D : PD) (a1 : Nat) (a2 : Nat) (s2 : Int32 → PH → Option (Int32 × PH)) (x1 : Int32) (h1 : PH) : Option (Int32 × PH) :=
  ckc (pCls h1 a1) 21 <|
  bnd (fJ2_size a1 h1) fun r1 h2 =>
  if r1 ≤ x1 then
    some ((-1), h2)
  else
    ckc (pCls h2 a1) 21 <|
    bnd (fJ2_get a1 x1 h2) fun q1 h3 =>
    qS q1 fun n1 =>
    ck2 (pCls h3 n1) 7 8 <|
    vA (pF2 h3 n1 7 8 0) fun p1 =>
    ckc (pCls h3 p1) 22 <|
    bnd (fJ6_equals D p1 (some a2) h3) fun r2 h4 =>
    if (bI r2) = 0 then
      s2 (x1 + 1) h4
    else
      some (x1, h4)
noncomputable def fX7_find (D : PD) (a1 : Nat) (a2 : Nat) (h : PH) : Option (Int32 × PH) :=
  fx (fX7_find_L2 D a1 a2) (fun _ _ => none) FU 0 h
set_option maxHeartbeats 1000000 in
theorem kX7_find {l : Launch} {D : PD} {A : Nat → Prop} {cap : Nat × Nat} {a1 : Nat} {a2 : Nat} {h h' : PH} {r : Int32} (hf : fX7_find D a1 a2 h = some (r, h')) : CMet l D A cap yX7_find cX7_find 3 (Option.some Jvm.ClassFile.FieldType.int) 4 [.ref a1, .ref a2] h h' (some (.int r)) := by
  unfold fX7_find at hf
  refine p_head (own := RX7) (ini := false) (pn_X7 rfl) rfl (fun q => by cases q) (Nat.le_of_ble_eq_true rfl) (fun m Z cx sx H0 ls X hM hl => ?_)
  have G := X.g
  have hl : lv_has ls 3 [(0, .ref a1), (1, .ref a2)] := hl
  refine g_iconst (v := 0) G dX7_find_0 rfl ?_
  refine g_istore_n (i := 2) (lv' := [(2, .int 0), (0, .ref a1), (1, .ref a2)]) G dX7_find_1 rfl hl (Nat.le_of_ble_eq_true rfl) rfl (fun ls hl => ?_)
  have L2 : ∀ (n : Nat) (x1 : Int32) (h1 : PH) (H : Heap) (locs : List Loc), fx (fX7_find_L2 D a1 a2) (fun _ _ => none) n x1 h1 = some (r, h') → PI D A cap H0 h1 H locs → ∀ ls : Array Slot, lv_has ls 3 [(0, .ref a1), (1, .ref a2), (2, .int x1)] → Z H locs (cx H) (sx H) (F0 m 2 ls []) := by
    intro n
    induction n with
    | zero => intro x1 h1 H locs hf; exact absurd hf (by intro q; cases q)
    | succ n ih2 =>
      intro x1 h1 H locs hf hM ls hl
      rw [fx_s] at hf
      generalize fx (fX7_find_L2 D a1 a2) (fun _ _ => none) n = s2 at hf ih2
      unfold fX7_find_L2 at hf
      refine g_iload_n G dX7_find_2 rfl (lv_at hl 2 rfl) ?_
      refine g_aload_n G dX7_find_3 rfl (lv_at hl 0 rfl) ?_
      obtain ⟨b1, hf⟩ := ckc_open hf
      obtain ⟨r1, h2, g1, hf⟩ := bnd_open hf
      refine p_callF_r (As := []) (rest := [.int x1]) X hM hl b1 pcy_J2_size (fun U hK => hK.1.2.2.1.1) ⟨by decide +kernel, by decide +kernel, by decide +kernel⟩ q756 q727 q725 (kJ2_size g1) rfl (Nat.le_of_ble_eq_true rfl) (Nat.le_of_ble_eq_true rfl) rfl dX7_find_4 (fun H locs hM => ?_)
      refine g_icmp_ge (tgt := 40) G dX7_find_9 rfl (fun c1 => ?_) (fun c1 => ?_)
      · have hf := it_pos c1 hf
        refine g_iconst (v := (-1)) G dX7_find_40 rfl ?_
        exact p_iret X hM hf dX7_find_41
      · have hf := it_neg c1 hf
        refine g_aload_n G dX7_find_12 rfl (lv_at hl 0 rfl) ?_
        refine g_iload_n G dX7_find_13 rfl (lv_at hl 2 rfl) ?_
        obtain ⟨b2, hf⟩ := ckc_open hf
        obtain ⟨q1, h3, g2, hf⟩ := bnd_open hf
        refine p_callF_r (As := [.int x1]) (rest := []) X hM hl b2 pcy_J2_get (fun U hK => hK.1.2.2.1.2.1) ⟨by decide +kernel, by decide +kernel, by decide +kernel⟩ q758 q763 q761 (kJ2_get g2) rfl (Nat.le_of_ble_eq_true rfl) (Nat.le_of_ble_eq_true rfl) rfl dX7_find_14 (fun H locs hM => ?_)
        obtain ⟨n1, e1, hfq⟩ := qS_open hf
        clear hf; subst e1; have hf := hfq; clear hfq
        obtain ⟨b3, hf⟩ := ck2_open hf
        refine p_cast2 X hM q776 q2468 b3 dX7_find_19 ?_
        obtain ⟨p1, g3, hf⟩ := vA_open hf
        refine p_get2 (k := 0) X hM (by decide) q800 g3 dX7_find_22 ?_
        refine g_aload_n G dX7_find_25 rfl (lv_at hl 1 rfl) ?_
        obtain ⟨b4, hf⟩ := ckc_open hf
        obtain ⟨r2, h4, g4, hf⟩ := bnd_open hf
        refine p_callV_r (ci := 22) (As := [va_rf (some a2)]) (rest := []) X hM hl rfl b4 pcy_J6_equals q777 q710 q711 (kJ6_equals g4) rfl (Nat.le_of_ble_eq_true rfl) (Nat.le_of_ble_eq_true rfl) rfl dX7_find_26 (fun H locs hM => ?_)
        refine g_if_eq (tgt := 34) G dX7_find_29 rfl (fun c2 => ?_) (fun c2 => ?_)
        · have hf := it_pos c2 hf
          refine g_iinc (v := x1 + 1) (lv' := [(2, .int (x1 + 1)), (0, .ref a1), (1, .ref a2)]) G dX7_find_34 hl (k := 2) rfl rfl (Nat.le_of_ble_eq_true rfl) rfl (fun ls hl => ?_)
          refine g_goto (tgt := 2) G dX7_find_37 rfl ?_
          exact ih2 _ _ _ _ hf hM ls (lv_sub hl [1, 2, 0] rfl)
        · have hf := it_neg c2 hf
          refine g_iload_n G dX7_find_32 rfl (lv_at hl 2 rfl) ?_
          exact p_iret X hM hf dX7_find_33
  exact L2 FU _ _ _ _ hf hM ls (lv_sub hl [1, 2, 0] rfl)
theorem pcy_X7_letter : pcY yX7_letter cX7_letter 2 (Option.some Jvm.ClassFile.FieldType.int) 1 := ⟨q1252, q163, ⟨by decide +kernel, by decide +kernel, by decide +kernel⟩, Nat.le_of_ble_eq_true rfl⟩
noncomputable def fX7_letter (D : PD) (a0 : Nat) (a1 : Int32) (h : PH) : Option (Int32 × PH) :=
  vA (pF2 h a0 7 8 0) fun p1 =>
  ckc (pCls h p1) 22 <|
  bnd (fJ6_length D p1 h) fun r1 h1 =>
  if r1 ≤ a1 then
    some (0, h1)
  else
    vA (pF2 h1 a0 7 8 0) fun p2 =>
    ckc (pCls h1 p2) 22 <|
    bnd (fJ6_charAt D p2 a1 h1) fun r2 h2 =>
    some (((r2 - 97) + 1), h2)
set_option maxHeartbeats 1000000 in
theorem kX7_letter {l : Launch} {D : PD} {A : Nat → Prop} {cap : Nat × Nat} {a0 : Nat} {a1 : Int32} {h h' : PH} {r : Int32} (hf : fX7_letter D a0 a1 h = some (r, h')) : CMet l D A cap yX7_letter cX7_letter 2 (Option.some Jvm.ClassFile.FieldType.int) 5 [.ref a0, .int a1] h h' (some (.int r)) := by
  unfold fX7_letter at hf
  refine p_head (own := RX7) (ini := false) (pn_X7 rfl) rfl (fun q => by cases q) (Nat.le_of_ble_eq_true rfl) (fun m Z cx sx H0 ls X hM hl => ?_)
  have G := X.g
  have hl : lv_has ls 2 [(0, .ref a0), (1, .int a1)] := hl
  refine g_iload_n G dX7_letter_0 rfl (lv_at hl 1 rfl) ?_
  refine g_aload_n G dX7_letter_1 rfl (lv_at hl 0 rfl) ?_
  obtain ⟨p1, g1, hf⟩ := vA_open hf
  refine p_get2 (k := 0) X hM (by decide) q800 g1 dX7_letter_2 ?_
  obtain ⟨b1, hf⟩ := ckc_open hf
  obtain ⟨r1, h1, g2, hf⟩ := bnd_open hf
  refine p_callV_r (ci := 22) (As := []) (rest := [.int a1]) X hM hl rfl b1 pcy_J6_length q1253 q745 q746 (kJ6_length g2) rfl (Nat.le_of_ble_eq_true rfl) (Nat.le_of_ble_eq_true rfl) rfl dX7_letter_5 (fun H locs hM => ?_)
  refine g_icmp_ge (tgt := 27) G dX7_letter_8 rfl (fun c1 => ?_) (fun c1 => ?_)
  · have hf := it_pos c1 hf
    refine g_iconst (v := 0) G dX7_letter_27 rfl ?_
    exact p_iret X hM hf dX7_letter_28
  · have hf := it_neg c1 hf
    refine g_aload_n G dX7_letter_11 rfl (lv_at hl 0 rfl) ?_
    obtain ⟨p2, g3, hf⟩ := vA_open hf
    refine p_get2 (k := 0) X hM (by decide) q800 g3 dX7_letter_12 ?_
    refine g_iload_n G dX7_letter_15 rfl (lv_at hl 1 rfl) ?_
    obtain ⟨b2, hf⟩ := ckc_open hf
    obtain ⟨r2, h2, g4, hf⟩ := bnd_open hf
    refine p_callV_r (ci := 22) (As := [.int a1]) (rest := []) X hM hl rfl b2 pcy_J6_charAt q1254 q1255 q1256 (kJ6_charAt g4) rfl (Nat.le_of_ble_eq_true rfl) (Nat.le_of_ble_eq_true rfl) rfl dX7_letter_16 (fun H locs hM => ?_)
    refine g_bipush (v := 97) G dX7_letter_19 rfl ?_
    refine g_isub G dX7_letter_21 ?_
    refine g_iconst (v := 1) G dX7_letter_22 rfl ?_
    refine g_iadd G dX7_letter_23 ?_
    refine g_goto (tgt := 28) G dX7_letter_24 rfl ?_
    exact p_iret X hM hf dX7_letter_28
theorem pcy_X0_find : pcY yX0_find cX0_find 3 (Option.some Jvm.ClassFile.FieldType.int) 2 := ⟨q742, q145, ⟨by decide +kernel, by decide +kernel, by decide +kernel⟩, Nat.le_of_ble_eq_true rfl⟩
noncomputable def fX0_find_L2 (D : PD) (a1 : Nat) (a2 : Nat) (s2 : Int32 → PH → Option (Int32 × PH)) (x1 : Int32) (h1 : PH) : Option (Int32 × PH) :=
  ob (pArr h1 a2 7) fun w1 =>
  if (nI w1.1) ≤ x1 then
    some ((-1), h1)
  else
    ob (pLdQ h1 a2 7 x1) fun q1 =>
    qS q1 fun n1 =>
    ckc (pCls h1 n1) 22 <|
    bnd (fJ6_equals D n1 (some a1) h1) fun r1 h2 =>
    if (bI r1) = 0 then
      s2 (x1 + 1) h2
    else
      some (x1, h2)
noncomputable def fX0_find (D : PD) (a1 : Nat) (a2 : Nat) (h : PH) : Option (Int32 × PH) :=
  fx (fX0_find_L2 D a1 a2) (fun _ _ => none) FU 0 h
set_option maxHeartbeats 1000000 in
theorem kX0_find {l : Launch} {D : PD} {A : Nat → Prop} {cap : Nat × Nat} {a1 : Nat} {a2 : Nat} {h h' : PH} {r : Int32} (hf : fX0_find D a1 a2 h = some (r, h')) : CMet l D A cap yX0_find cX0_find 3 (Option.some Jvm.ClassFile.FieldType.int) 3 [.ref a1, .ref a2] h h' (some (.int r)) := by
  unfold fX0_find at hf
  refine p_head (own := RX0) (ini := false) (pn_X0 rfl) rfl (fun q => by cases q) (Nat.le_of_ble_eq_true rfl) (fun m Z cx sx H0 ls X hM hl => ?_)
  have G := X.g
  have hl : lv_has ls 3 [(0, .ref a1), (1, .ref a2)] := hl
  refine g_iconst (v := 0) G dX0_find_0 rfl ?_
  refine g_istore_n (i := 2) (lv' := [(2, .int 0), (0, .ref a1), (1, .ref a2)]) G dX0_find_1 rfl hl (Nat.le_of_ble_eq_true rfl) rfl (fun ls hl => ?_)
  have L2 : ∀ (n : Nat) (x1 : Int32) (h1 : PH) (H : Heap) (locs : List Loc), fx (fX0_find_L2 D a1 a2) (fun _ _ => none) n x1 h1 = some (r, h') → PI D A cap H0 h1 H locs → ∀ ls : Array Slot, lv_has ls 3 [(0, .ref a1), (1, .ref a2), (2, .int x1)] → Z H locs (cx H) (sx H) (F0 m 2 ls []) := by
    intro n
    induction n with
    | zero => intro x1 h1 H locs hf; exact absurd hf (by intro q; cases q)
    | succ n ih2 =>
      intro x1 h1 H locs hf hM ls hl
      rw [fx_s] at hf
      generalize fx (fX0_find_L2 D a1 a2) (fun _ _ => none) n = s2 at hf ih2
      unfold fX0_find_L2 at hf
      refine g_iload_n G dX0_find_2 rfl (lv_at hl 2 rfl) ?_
      refine g_aload_n G dX0_find_3 rfl (lv_at hl 1 rfl) ?_
      obtain ⟨w1, g1, hf⟩ := ob_open hf
      refine p_alen X hM (kd := 7) (by decide) g1 rfl dX0_find_4 ?_
      refine g_icmp_ge (tgt := 26) G dX0_find_5 rfl (fun c1 => ?_) (fun c1 => ?_)
      · have hf := it_pos c1 hf
        refine g_iconst (v := (-1)) G dX0_find_26 rfl ?_
        exact p_iret X hM hf dX0_find_27
      · have hf := it_neg c1 hf
        refine g_aload_n G dX0_find_8 rfl (lv_at hl 1 rfl) ?_
        refine g_iload_n G dX0_find_9 rfl (lv_at hl 2 rfl) ?_
        obtain ⟨q1, g2, hf⟩ := ob_open hf
        refine p_aald X hM (kd := 7) (by decide) rfl g2 dX0_find_10 ?_
        refine g_aload_n G dX0_find_11 rfl (lv_at hl 0 rfl) ?_
        obtain ⟨n1, e1, hfq⟩ := qS_open hf
        clear hf; subst e1; have hf := hfq; clear hfq
        obtain ⟨b1, hf⟩ := ckc_open hf
        obtain ⟨r1, h2, g3, hf⟩ := bnd_open hf
        refine p_callV_r (ci := 22) (As := [va_rf (some a1)]) (rest := []) X hM hl rfl b1 pcy_J6_equals q743 q710 q711 (kJ6_equals g3) rfl (Nat.le_of_ble_eq_true rfl) (Nat.le_of_ble_eq_true rfl) rfl dX0_find_12 (fun H locs hM => ?_)
        refine g_if_eq (tgt := 20) G dX0_find_15 rfl (fun c2 => ?_) (fun c2 => ?_)
        · have hf := it_pos c2 hf
          refine g_iinc (v := x1 + 1) (lv' := [(2, .int (x1 + 1)), (0, .ref a1), (1, .ref a2)]) G dX0_find_20 hl (k := 2) rfl rfl (Nat.le_of_ble_eq_true rfl) rfl (fun ls hl => ?_)
          refine g_goto (tgt := 2) G dX0_find_23 rfl ?_
          exact ih2 _ _ _ _ hf hM ls (lv_sub hl [1, 2, 0] rfl)
        · have hf := it_neg c2 hf
          refine g_iload_n G dX0_find_18 rfl (lv_at hl 2 rfl) ?_
          exact p_iret X hM hf dX0_find_19
  exact L2 FU _ _ _ _ hf hM ls (lv_sub hl [1, 2, 0] rfl)
theorem pcy_X0_letter : pcY yX0_letter cX0_letter 5 (Option.some Jvm.ClassFile.FieldType.int) 3 := ⟨q1242, q145, ⟨by decide +kernel, by decide +kernel, by decide +kernel⟩, Nat.le_of_ble_eq_true rfl⟩
noncomputable def fX0_letter (D : PD) (a0 : Nat) (a1 : Int32) (a2 : Int32) (a3 : Int32) (h : PH) : Option (Int32 × PH) :=
  bnd (fX0_is a3 0 5 h) fun r1 h1 =>
  if (bI r1) = 0 then
    some ((-1), h1)
  else
    bnd (fX0_is a1 0 1 h1) fun r2 h2 =>
    if (bI r2) = 0 then
      some ((-1), h2)
    else
      if 0 ≤ a2 then
        jn (fun (x1 : Nat) (h3 : PH) =>
          ckc (pCls h3 x1) 21 <|
          bnd (fJ2_size x1 h3) fun r3 h4 =>
          if r3 ≤ a2 then
            some ((-1), h4)
          else
            ckc (pCls h4 x1) 21 <|
            bnd (fJ2_get x1 a2 h4) fun q1 h5 =>
            qS q1 fun n1 =>
            ck2 (pCls h5 n1) 7 8 <|
            ck2 (pCls h5 n1) 7 8 <|
            bnd (fX7_letter D n1 a3 h5) fun r4 h6 =>
            some (r4, h6)) fun j45 =>
        if a1 = 0 then
          vA (pF h2 a0 0 0) fun p3 =>
          vA (pF h2 p3 1 4) fun p4 =>
          j45 p4 h2
        else
          vA (pF h2 a0 0 0) fun p1 =>
          vA (pF h2 p1 1 5) fun p2 =>
          j45 p2 h2
      else
        some ((-1), h2)
set_option maxHeartbeats 1000000 in
theorem kX0_letter {l : Launch} {D : PD} {A : Nat → Prop} {cap : Nat × Nat} {a0 : Nat} {a1 : Int32} {a2 : Int32} {a3 : Int32} {h h' : PH} {r : Int32} (hf : fX0_letter D a0 a1 a2 a3 h = some (r, h')) : CMet l D A cap yX0_letter cX0_letter 5 (Option.some Jvm.ClassFile.FieldType.int) 6 [.ref a0, .int a1, .int a2, .int a3] h h' (some (.int r)) := by
  unfold fX0_letter at hf
  refine p_head (own := RX0) (ini := false) (pn_X0 rfl) rfl (fun q => by cases q) (Nat.le_of_ble_eq_true rfl) (fun m Z cx sx H0 ls X hM hl => ?_)
  have G := X.g
  have hl : lv_has ls 5 [(0, .ref a0), (1, .int a1), (2, .int a2), (3, .int a3)] := hl
  refine g_iload_n G dX0_letter_0 rfl (lv_at hl 3 rfl) ?_
  refine g_iconst (v := 0) G dX0_letter_1 rfl ?_
  refine g_iconst (v := 5) G dX0_letter_2 rfl ?_
  obtain ⟨r1, h1, g1, hf⟩ := bnd_open hf
  refine p_callS_r (As := [.int a3, .int 0, .int 5]) (rest := []) X hM hl pcy_X0_is q1243 q794 (kX0_is g1) rfl (Nat.le_of_ble_eq_true rfl) (Nat.le_of_ble_eq_true rfl) rfl dX0_letter_3 (fun H locs hM => ?_)
  refine g_if_eq (tgt := 22) G dX0_letter_6 rfl (fun c1 => ?_) (fun c1 => ?_)
  · have hf := it_pos c1 hf
    refine g_iconst (v := (-1)) G dX0_letter_22 rfl ?_
    exact p_iret X hM hf dX0_letter_23
  · have hf := it_neg c1 hf
    refine g_iload_n G dX0_letter_9 rfl (lv_at hl 1 rfl) ?_
    refine g_iconst (v := 0) G dX0_letter_10 rfl ?_
    refine g_iconst (v := 1) G dX0_letter_11 rfl ?_
    obtain ⟨r2, h2, g2, hf⟩ := bnd_open hf
    refine p_callS_r (As := [.int a1, .int 0, .int 1]) (rest := []) X hM hl pcy_X0_is q1243 q794 (kX0_is g2) rfl (Nat.le_of_ble_eq_true rfl) (Nat.le_of_ble_eq_true rfl) rfl dX0_letter_12 (fun H locs hM => ?_)
    refine g_if_eq (tgt := 22) G dX0_letter_15 rfl (fun c2 => ?_) (fun c2 => ?_)
    · have hf := it_pos c2 hf
      refine g_iconst (v := (-1)) G dX0_letter_22 rfl ?_
      exact p_iret X hM hf dX0_letter_23
    · have hf := it_neg c2 hf
      refine g_iload_n G dX0_letter_18 rfl (lv_at hl 2 rfl) ?_
      refine g_if_ge (tgt := 24) G dX0_letter_19 rfl (fun c3 => ?_) (fun c3 => ?_)
      · have hf := it_pos c3 hf
        refine g_iload_n G dX0_letter_24 rfl (lv_at hl 1 rfl) ?_
        obtain ⟨j45, ej45, hf⟩ := jn_open hf
        have J45 : ∀ (x1 : Nat) (h3 : PH) (H : Heap) (locs : List Loc), j45 x1 h3 = some (r, h') → PI D A cap H0 h3 H locs → ∀ ls : Array Slot, lv_has ls 5 [(2, .int a2), (3, .int a3)] → Z H locs (cx H) (sx H) (F0 m 45 ls [.ref x1]) := by
          intro x1 h3 H locs hf hM ls hl
          rw [ej45] at hf
          refine g_astore (lv' := [(4, .ref x1), (2, .int a2), (3, .int a3)]) G dX0_letter_45 hl (Nat.le_of_ble_eq_true rfl) rfl (fun ls hl => ?_)
          refine g_iload_n G dX0_letter_47 rfl (lv_at hl 1 rfl) ?_
          refine g_aload G dX0_letter_48 (lv_at hl 0 rfl) ?_
          obtain ⟨b1, hf⟩ := ckc_open hf
          obtain ⟨r3, h4, g3, hf⟩ := bnd_open hf
          refine p_callF_r (As := []) (rest := [.int a2]) X hM hl b1 pcy_J2_size (fun U hK => hK.1.2.2.1.1) ⟨by decide +kernel, by decide +kernel, by decide +kernel⟩ q1211 q727 q725 (kJ2_size g3) rfl (Nat.le_of_ble_eq_true rfl) (Nat.le_of_ble_eq_true rfl) rfl dX0_letter_50 (fun H locs hM => ?_)
          refine g_icmp_ge (tgt := 76) G dX0_letter_55 rfl (fun c4 => ?_) (fun c4 => ?_)
          · have hf := it_pos c4 hf
            refine g_iconst (v := (-1)) G dX0_letter_76 rfl ?_
            exact p_iret X hM hf dX0_letter_77
          · have hf := it_neg c4 hf
            refine g_aload G dX0_letter_58 (lv_at hl 0 rfl) ?_
            refine g_iload_n G dX0_letter_60 rfl (lv_at hl 1 rfl) ?_
            obtain ⟨b2, hf⟩ := ckc_open hf
            obtain ⟨q1, h5, g4, hf⟩ := bnd_open hf
            refine p_callF_r (As := [.int a2]) (rest := []) X hM hl b2 pcy_J2_get (fun U hK => hK.1.2.2.1.2.1) ⟨by decide +kernel, by decide +kernel, by decide +kernel⟩ q1245 q763 q761 (kJ2_get g4) rfl (Nat.le_of_ble_eq_true rfl) (Nat.le_of_ble_eq_true rfl) rfl dX0_letter_61 (fun H locs hM => ?_)
            obtain ⟨n1, e1, hfq⟩ := qS_open hf
            clear hf; subst e1; have hf := hfq; clear hfq
            obtain ⟨b3, hf⟩ := ck2_open hf
            refine p_cast2 X hM q1246 q2468 b3 dX0_letter_66 ?_
            refine g_iload_n G dX0_letter_69 rfl (lv_at hl 2 rfl) ?_
            obtain ⟨b4, hf⟩ := ck2_open hf
            obtain ⟨r4, h6, g5, hf⟩ := bnd_open hf
            refine p_call2 (As := [.int a3]) (rest := []) X hM hl rfl b4 pcy_X7_letter q1247 q1250 q1249 q1251 q1248 (kX7_letter g5) rfl (Nat.le_of_ble_eq_true rfl) (Nat.le_of_ble_eq_true rfl) rfl dX0_letter_70 (fun H locs hM => ?_)
            refine g_goto (tgt := 77) G dX0_letter_73 rfl ?_
            exact p_iret X hM hf dX0_letter_77
        refine g_if_ne (tgt := 38) G dX0_letter_25 rfl (fun c5 => ?_) (fun c5 => ?_)
        · have hf := it_neg c5 hf
          refine g_aload_n G dX0_letter_38 rfl (lv_at hl 0 rfl) ?_
          obtain ⟨p1, g6, hf⟩ := vA_open hf
          refine p_get (k := 0) X hM pc_0 (by decide) q446 rfl g6 dX0_letter_39 ?_
          obtain ⟨p2, g7, hf⟩ := vA_open hf
          refine p_getN (k := 5) X hM pc_1 (by decide) q244 rfl g7 dX0_letter_42 ?_
          exact J45 _ _ _ _ hf hM ls (lv_sub hl [2, 3] rfl)
        · have hf := it_pos c5 hf
          refine g_aload_n G dX0_letter_28 rfl (lv_at hl 0 rfl) ?_
          obtain ⟨p3, g8, hf⟩ := vA_open hf
          refine p_get (k := 0) X hM pc_0 (by decide) q446 rfl g8 dX0_letter_29 ?_
          obtain ⟨p4, g9, hf⟩ := vA_open hf
          refine p_getN (k := 4) X hM pc_1 (by decide) q240 rfl g9 dX0_letter_32 ?_
          refine g_goto (tgt := 45) G dX0_letter_35 rfl ?_
          exact J45 _ _ _ _ hf hM ls (lv_sub hl [2, 3] rfl)
      · have hf := it_neg c3 hf
        refine g_iconst (v := (-1)) G dX0_letter_22 rfl ?_
        exact p_iret X hM hf dX0_letter_23
theorem pcy_X0_init : pcY yX0_init cX0_init 2 none 0 := ⟨q188, q145, ⟨by decide +kernel, by decide +kernel, by decide +kernel⟩, Nat.le_of_ble_eq_true rfl⟩
noncomputable def fX0_init_L133 (cap : Nat × Nat) (a0 : Nat) (k159 : PH → Option (PH)) (s133 : Int32 → PH → Option (PH)) (x1 : Int32) (h36 : PH) : Option (PH) :=
  if (20 : Int32) ≤ x1 then
    k159 h36
  else
    vA (pF h36 a0 0 15) fun p14 =>
    bnd (pNew cap h36 (.inr (5, [.int 0, .int 0, .int 0, .int 0, .null, .null, .null, .null, .null, .null, .int 0, .null])) 12) fun p15 h37 =>
    bnv (fX5_init cap p15 a0 h37) fun h38 =>
    ckc (pCls h38 p15) 5 <|
    bnv (pStQ h38 p14 5 x1 (some p15)) fun h39 =>
    s133 (x1 + 1) h39
noncomputable def fX0_init (D : PD) (cap : Nat × Nat) (a0 : Nat) (h : PH) : Option (PH) :=
  bnd (pNew cap h (.inr (1, [.int 0, .int 0, .int 0, .int 0, .null, .null, .null, .null, .null])) 9) fun p1 h1 =>
  bnv (fX1_init D cap p1 h1) fun h2 =>
  bnv (pPut h2 a0 0 0 (.ref p1)) fun h3 =>
  ck (!decide ((1600 : Int32) < 0) && decide ((Int32.toNatClampNeg 1600) ≤ 100000)) <|
  bnd (pNew cap h3 (.inl (2, (Int32.toNatClampNeg 1600), .inl (fun _ => 0))) (Int32.toNatClampNeg 1600)) fun p2 h4 =>
  bnv (pPut h4 a0 0 1 (.ref p2)) fun h5 =>
  bnv (pPut h5 a0 0 4 (.int (-1))) fun h6 =>
  bnd (pNew cap h6 (.inr (2, [.null, .int 0, .int 0, .int 0, .int 0, .int 0, .null, .null])) 8) fun p3 h7 =>
  bnv (fX2_init D cap p3 a0 h7) fun h8 =>
  bnv (pPut h8 a0 0 5 (.ref p3)) fun h9 =>
  bnd (pNew cap h9 (.inr (4, [.null])) 1) fun p4 h10 =>
  bnv (fX4_init cap p4 h10) fun h11 =>
  bnv (pPut h11 a0 0 6 (.ref p4)) fun h12 =>
  bnd (pNew cap h12 (.inr (4, [.null])) 1) fun p5 h13 =>
  bnv (fX4_init cap p5 h13) fun h14 =>
  bnv (pPut h14 a0 0 7 (.ref p5)) fun h15 =>
  ck (!decide ((6 : Int32) < 0) && decide ((Int32.toNatClampNeg 6) ≤ 100000)) <|
  bnd (pNew cap h15 (.inl (0, (Int32.toNatClampNeg 6), .inl (fun _ => 0))) (Int32.toNatClampNeg 6)) fun p6 h16 =>
  bnv (pPut h16 a0 0 8 (.ref p6)) fun h17 =>
  bnd (pNew cap h17 (.inr (5, [.int 0, .int 0, .int 0, .int 0, .null, .null, .null, .null, .null, .null, .int 0, .null])) 12) fun p7 h18 =>
  bnv (fX5_init cap p7 a0 h18) fun h19 =>
  bnv (pPut h19 a0 0 9 (.ref p7)) fun h20 =>
  bnd (pNew cap h20 (.inr (5, [.int 0, .int 0, .int 0, .int 0, .null, .null, .null, .null, .null, .null, .int 0, .null])) 12) fun p8 h21 =>
  bnv (fX5_init cap p8 a0 h21) fun h22 =>
  bnv (pPut h22 a0 0 10 (.ref p8)) fun h23 =>
  ck (!decide ((16 : Int32) < 0) && decide ((Int32.toNatClampNeg 16) ≤ 100000)) <|
  bnd (pNew cap h23 (.inl (0, (Int32.toNatClampNeg 16), .inl (fun _ => 0))) (Int32.toNatClampNeg 16)) fun p9 h24 =>
  bnv (pPut h24 a0 0 11 (.ref p9)) fun h25 =>
  ck (!decide ((16 : Int32) < 0) && decide ((Int32.toNatClampNeg 16) ≤ 100000)) <|
  bnd (pNew cap h25 (.inl (0, (Int32.toNatClampNeg 16), .inl (fun _ => 0))) (Int32.toNatClampNeg 16)) fun p10 h26 =>
  bnv (pPut h26 a0 0 12 (.ref p10)) fun h27 =>
  bnd (pMul cap h27 8 3) fun p11 h28 =>
  bnv (pPut h28 a0 0 14 (.ref p11)) fun h29 =>
  ck (!decide ((20 : Int32) < 0) && decide ((Int32.toNatClampNeg 20) ≤ 100000)) <|
  bnd (pNew cap h29 (.inl (5, (Int32.toNatClampNeg 20), .inr (.inr (.inr (.inr (fun _ => none)))))) (Int32.toNatClampNeg 20)) fun p12 h30 =>
  bnv (pPut h30 a0 0 15 (.ref p12)) fun h31 =>
  jn (fun (h32 : PH) =>
    bnv (pPut h32 a0 0 17 (.long 1)) fun h33 =>
    ck (!decide ((43 : Int32) < 0) && decide ((Int32.toNatClampNeg 43) ≤ 100000)) <|
    bnd (pNew cap h33 (.inl (2, (Int32.toNatClampNeg 43), .inl (fun _ => 0))) (Int32.toNatClampNeg 43)) fun p13 h34 =>
    bnv (pPut h34 a0 0 19 (.ref p13)) fun h35 =>
    some h35) fun k159 =>
  fx (fX0_init_L133 cap a0 k159) (fun _ _ => none) FU 0 h31
set_option maxHeartbeats 1000000 in
theorem kX0_init {l : Launch} {D : PD} {A : Nat → Prop} {cap : Nat × Nat} {a0 : Nat} {h h' : PH} (hf : fX0_init D cap a0 h = some h') : CMet l D A cap yX0_init cX0_init 2 none 7 [.ref a0] h h' (none) := by
  unfold fX0_init at hf
  refine p_head (own := RX0) (ini := true) (pn_X0 rfl) rfl (fun q => rfl) (Nat.le_of_ble_eq_true rfl) (fun m Z cx sx H0 ls X hM hl => ?_)
  have G := X.g
  have hl : lv_has ls 2 [(0, .ref a0)] := hl
  refine g_aload_n G dX0_init_0 rfl (lv_at hl 0 rfl) ?_
  refine p_obj X hl q189 q190 q191 (by decide) (Nat.le_of_ble_eq_true rfl) dX0_init_1 ?_
  refine g_aload_n G dX0_init_4 rfl (lv_at hl 0 rfl) ?_
  obtain ⟨p1, h1, g1, hf⟩ := bnd_open hf
  refine p_new X hM pc_1 q192 q193 q146 (by decide +kernel) g1 dX0_init_5 (fun H locs hM => ?_)
  refine g_dup G dX0_init_8 rfl ?_
  obtain ⟨h2, g2, hf⟩ := bnv_open hf
  refine p_callIN_v (As := []) (rest := [.ref p1, .ref a0]) X hM hl pcy_X1_init rfl q194 q195 (kX1_init g2) rfl (Nat.le_of_ble_eq_true rfl) (Nat.le_of_ble_eq_true rfl) rfl dX0_init_9 (fun H locs hM => ?_)
  obtain ⟨h3, g3, hf⟩ := bnv_open hf
  refine p_put (k := 0) X hM pc_0 (by decide) q446 rfl rfl rfl rfl g3 dX0_init_12 (fun H locs hM => ?_)
  refine g_aload_n G dX0_init_15 rfl (lv_at hl 0 rfl) ?_
  refine g_sipush (v := 1600) G dX0_init_16 rfl ?_
  obtain ⟨b1, hf⟩ := ck_open hf
  obtain ⟨p2, h4, g4, hf⟩ := bnd_open hf
  refine p_newB X hM b1 g4 dX0_init_19 (fun H locs hM => ?_)
  obtain ⟨h5, g5, hf⟩ := bnv_open hf
  refine p_putF (k := 1) X hM pc_0 (by decide) q448 rfl rfl rfl rfl rfl g5 dX0_init_21 (fun H locs hM => ?_)
  refine g_aload_n G dX0_init_24 rfl (lv_at hl 0 rfl) ?_
  refine g_iconst (v := (-1)) G dX0_init_25 rfl ?_
  obtain ⟨h6, g6, hf⟩ := bnv_open hf
  refine p_put (k := 4) X hM pc_0 (by decide) q451 rfl rfl rfl rfl g6 dX0_init_26 (fun H locs hM => ?_)
  refine g_aload_n G dX0_init_29 rfl (lv_at hl 0 rfl) ?_
  obtain ⟨p3, h7, g7, hf⟩ := bnd_open hf
  refine p_new X hM pc_2 q270 q271 q150 (by decide +kernel) g7 dX0_init_30 (fun H locs hM => ?_)
  refine g_dup G dX0_init_33 rfl ?_
  refine g_aload_n G dX0_init_34 rfl (lv_at hl 0 rfl) ?_
  obtain ⟨h8, g8, hf⟩ := bnv_open hf
  refine p_callIN_v (As := [.ref a0]) (rest := [.ref p3, .ref a0]) X hM hl pcy_X2_init rfl q272 q273 (kX2_init g8) rfl (Nat.le_of_ble_eq_true rfl) (Nat.le_of_ble_eq_true rfl) rfl dX0_init_35 (fun H locs hM => ?_)
  obtain ⟨h9, g9, hf⟩ := bnv_open hf
  refine p_putF (k := 5) X hM pc_0 (by decide) q452 rfl rfl rfl rfl rfl g9 dX0_init_38 (fun H locs hM => ?_)
  refine g_aload_n G dX0_init_41 rfl (lv_at hl 0 rfl) ?_
  obtain ⟨p4, h10, g10, hf⟩ := bnd_open hf
  refine p_new X hM pc_4 q374 q375 q155 (by decide +kernel) g10 dX0_init_42 (fun H locs hM => ?_)
  refine g_dup G dX0_init_45 rfl ?_
  obtain ⟨h11, g11, hf⟩ := bnv_open hf
  refine p_callIN_v (As := []) (rest := [.ref p4, .ref a0]) X hM hl pcy_X4_init rfl q376 q377 (kX4_init g11) rfl (Nat.le_of_ble_eq_true rfl) (Nat.le_of_ble_eq_true rfl) rfl dX0_init_46 (fun H locs hM => ?_)
  obtain ⟨h12, g12, hf⟩ := bnv_open hf
  refine p_putF (k := 6) X hM pc_0 (by decide) q454 rfl rfl rfl rfl rfl g12 dX0_init_49 (fun H locs hM => ?_)
  refine g_aload_n G dX0_init_52 rfl (lv_at hl 0 rfl) ?_
  obtain ⟨p5, h13, g13, hf⟩ := bnd_open hf
  refine p_new X hM pc_4 q374 q375 q155 (by decide +kernel) g13 dX0_init_53 (fun H locs hM => ?_)
  refine g_dup G dX0_init_56 rfl ?_
  obtain ⟨h14, g14, hf⟩ := bnv_open hf
  refine p_callIN_v (As := []) (rest := [.ref p5, .ref a0]) X hM hl pcy_X4_init rfl q376 q377 (kX4_init g14) rfl (Nat.le_of_ble_eq_true rfl) (Nat.le_of_ble_eq_true rfl) rfl dX0_init_57 (fun H locs hM => ?_)
  obtain ⟨h15, g15, hf⟩ := bnv_open hf
  refine p_putF (k := 7) X hM pc_0 (by decide) q455 rfl rfl rfl rfl rfl g15 dX0_init_60 (fun H locs hM => ?_)
  refine g_aload_n G dX0_init_63 rfl (lv_at hl 0 rfl) ?_
  refine g_bipush (v := 6) G dX0_init_64 rfl ?_
  obtain ⟨b2, hf⟩ := ck_open hf
  obtain ⟨p6, h16, g16, hf⟩ := bnd_open hf
  refine p_newI X hM b2 g16 dX0_init_66 (fun H locs hM => ?_)
  obtain ⟨h17, g17, hf⟩ := bnv_open hf
  refine p_putF (k := 8) X hM pc_0 (by decide) q456 rfl rfl rfl rfl rfl g17 dX0_init_68 (fun H locs hM => ?_)
  refine g_aload_n G dX0_init_71 rfl (lv_at hl 0 rfl) ?_
  obtain ⟨p7, h18, g18, hf⟩ := bnd_open hf
  refine p_new X hM pc_5 q388 q389 q156 (by decide +kernel) g18 dX0_init_72 (fun H locs hM => ?_)
  refine g_dup G dX0_init_75 rfl ?_
  refine g_aload_n G dX0_init_76 rfl (lv_at hl 0 rfl) ?_
  obtain ⟨h19, g19, hf⟩ := bnv_open hf
  refine p_callIN_v (As := [.ref a0]) (rest := [.ref p7, .ref a0]) X hM hl pcy_X5_init rfl q390 q391 (kX5_init g19) rfl (Nat.le_of_ble_eq_true rfl) (Nat.le_of_ble_eq_true rfl) rfl dX0_init_77 (fun H locs hM => ?_)
  obtain ⟨h20, g20, hf⟩ := bnv_open hf
  refine p_putF (k := 9) X hM pc_0 (by decide) q457 rfl rfl rfl rfl rfl g20 dX0_init_80 (fun H locs hM => ?_)
  refine g_aload_n G dX0_init_83 rfl (lv_at hl 0 rfl) ?_
  obtain ⟨p8, h21, g21, hf⟩ := bnd_open hf
  refine p_new X hM pc_5 q388 q389 q156 (by decide +kernel) g21 dX0_init_84 (fun H locs hM => ?_)
  refine g_dup G dX0_init_87 rfl ?_
  refine g_aload_n G dX0_init_88 rfl (lv_at hl 0 rfl) ?_
  obtain ⟨h22, g22, hf⟩ := bnv_open hf
  refine p_callIN_v (As := [.ref a0]) (rest := [.ref p8, .ref a0]) X hM hl pcy_X5_init rfl q390 q391 (kX5_init g22) rfl (Nat.le_of_ble_eq_true rfl) (Nat.le_of_ble_eq_true rfl) rfl dX0_init_89 (fun H locs hM => ?_)
  obtain ⟨h23, g23, hf⟩ := bnv_open hf
  refine p_putF (k := 10) X hM pc_0 (by decide) q458 rfl rfl rfl rfl rfl g23 dX0_init_92 (fun H locs hM => ?_)
  refine g_aload_n G dX0_init_95 rfl (lv_at hl 0 rfl) ?_
  refine g_bipush (v := 16) G dX0_init_96 rfl ?_
  obtain ⟨b3, hf⟩ := ck_open hf
  obtain ⟨p9, h24, g24, hf⟩ := bnd_open hf
  refine p_newI X hM b3 g24 dX0_init_98 (fun H locs hM => ?_)
  obtain ⟨h25, g25, hf⟩ := bnv_open hf
  refine p_putF (k := 11) X hM pc_0 (by decide) q459 rfl rfl rfl rfl rfl g25 dX0_init_100 (fun H locs hM => ?_)
  refine g_aload_n G dX0_init_103 rfl (lv_at hl 0 rfl) ?_
  refine g_bipush (v := 16) G dX0_init_104 rfl ?_
  obtain ⟨b4, hf⟩ := ck_open hf
  obtain ⟨p10, h26, g26, hf⟩ := bnd_open hf
  refine p_newI X hM b4 g26 dX0_init_106 (fun H locs hM => ?_)
  obtain ⟨h27, g27, hf⟩ := bnv_open hf
  refine p_putF (k := 12) X hM pc_0 (by decide) q460 rfl rfl rfl rfl rfl g27 dX0_init_108 (fun H locs hM => ?_)
  refine g_aload_n G dX0_init_111 rfl (lv_at hl 0 rfl) ?_
  refine g_bipush (v := 8) G dX0_init_112 rfl ?_
  refine g_iconst (v := 3) G dX0_init_114 rfl ?_
  obtain ⟨p11, h28, g28, hf⟩ := bnd_open hf
  refine p_multi X hM q443 g28 dX0_init_115 (fun H locs hM => ?_)
  obtain ⟨h29, g29, hf⟩ := bnv_open hf
  refine p_putF (k := 14) X hM pc_0 (by decide) q462 rfl rfl rfl rfl rfl g29 dX0_init_119 (fun H locs hM => ?_)
  refine g_aload_n G dX0_init_122 rfl (lv_at hl 0 rfl) ?_
  refine g_bipush (v := 20) G dX0_init_123 rfl ?_
  obtain ⟨b5, hf⟩ := ck_open hf
  obtain ⟨p12, h30, g30, hf⟩ := bnd_open hf
  refine p_newSt X hM q388 b5 g30 dX0_init_125 (fun H locs hM => ?_)
  obtain ⟨h31, g31, hf⟩ := bnv_open hf
  refine p_putF (k := 15) X hM pc_0 (by decide) q463 rfl rfl rfl rfl rfl g31 dX0_init_128 (fun H locs hM => ?_)
  refine g_iconst (v := 0) G dX0_init_131 rfl ?_
  refine g_istore_n (i := 1) (lv' := [(1, .int 0), (0, .ref a0)]) G dX0_init_132 rfl hl (Nat.le_of_ble_eq_true rfl) rfl (fun ls hl => ?_)
  obtain ⟨k159, ek159, hf⟩ := jn_open hf
  have K159 : ∀ (h32 : PH) (H : Heap) (locs : List Loc), k159 h32 = some h' → PI D A cap H0 h32 H locs → ∀ ls : Array Slot, lv_has ls 2 [(0, .ref a0)] → Z H locs (cx H) (sx H) (F0 m 159 ls []) := by
    intro h32 H locs hf hM ls hl
    rw [ek159] at hf
    refine g_aload_n G dX0_init_159 rfl (lv_at hl 0 rfl) ?_
    refine g_lconst (v := 1) G dX0_init_160 rfl ?_
    obtain ⟨h33, g32, hf⟩ := bnv_open hf
    refine p_put (k := 17) X hM pc_0 (by decide) q465 rfl rfl rfl rfl g32 dX0_init_161 (fun H locs hM => ?_)
    refine g_aload_n G dX0_init_164 rfl (lv_at hl 0 rfl) ?_
    refine g_bipush (v := 43) G dX0_init_165 rfl ?_
    obtain ⟨b6, hf⟩ := ck_open hf
    obtain ⟨p13, h34, g33, hf⟩ := bnd_open hf
    refine p_newB X hM b6 g33 dX0_init_167 (fun H locs hM => ?_)
    obtain ⟨h35, g34, hf⟩ := bnv_open hf
    refine p_putF (k := 19) X hM pc_0 (by decide) q467 rfl rfl rfl rfl rfl g34 dX0_init_169 (fun H locs hM => ?_)
    exact p_vret X hM hf dX0_init_172
  have L133 : ∀ (n : Nat) (x1 : Int32) (h36 : PH) (H : Heap) (locs : List Loc), fx (fX0_init_L133 cap a0 k159) (fun _ _ => none) n x1 h36 = some h' → PI D A cap H0 h36 H locs → ∀ ls : Array Slot, lv_has ls 2 [(0, .ref a0), (1, .int x1)] → Z H locs (cx H) (sx H) (F0 m 133 ls []) := by
    intro n
    induction n with
    | zero => intro x1 h36 H locs hf; exact absurd hf (by intro q; cases q)
    | succ n ih133 =>
      intro x1 h36 H locs hf hM ls hl
      rw [fx_s] at hf
      generalize fx (fX0_init_L133 cap a0 k159) (fun _ _ => none) n = s133 at hf ih133
      unfold fX0_init_L133 at hf
      refine g_iload_n G dX0_init_133 rfl (lv_at hl 1 rfl) ?_
      refine g_bipush (v := 20) G dX0_init_134 rfl ?_
      refine g_icmp_ge (tgt := 159) G dX0_init_136 rfl (fun c1 => ?_) (fun c1 => ?_)
      · have hf := it_pos c1 hf
        exact K159 _ _ _ hf hM ls (lv_sub hl [0] rfl)
      · have hf := it_neg c1 hf
        refine g_aload_n G dX0_init_139 rfl (lv_at hl 0 rfl) ?_
        obtain ⟨p14, g35, hf⟩ := vA_open hf
        refine p_get (k := 15) X hM pc_0 (by decide) q463 rfl g35 dX0_init_140 ?_
        refine g_iload_n G dX0_init_143 rfl (lv_at hl 1 rfl) ?_
        obtain ⟨p15, h37, g36, hf⟩ := bnd_open hf
        refine p_new X hM pc_5 q388 q389 q156 (by decide +kernel) g36 dX0_init_144 (fun H locs hM => ?_)
        refine g_dup G dX0_init_147 rfl ?_
        refine g_aload_n G dX0_init_148 rfl (lv_at hl 0 rfl) ?_
        obtain ⟨h38, g37, hf⟩ := bnv_open hf
        refine p_callIN_v (As := [.ref a0]) (rest := [.ref p15, .int x1, .ref p14]) X hM hl pcy_X5_init rfl q390 q391 (kX5_init g37) rfl (Nat.le_of_ble_eq_true rfl) (Nat.le_of_ble_eq_true rfl) rfl dX0_init_149 (fun H locs hM => ?_)
        obtain ⟨b7, hf⟩ := ckc_open hf
        obtain ⟨h39, g38, hf⟩ := bnv_open hf
        refine p_aast X hM (kd := 5) (ci := 5) (by decide) rfl rfl b7 g38 dX0_init_152 (fun H locs hM => ?_)
        refine g_iinc (v := x1 + 1) (lv' := [(1, .int (x1 + 1)), (0, .ref a0)]) G dX0_init_153 hl (k := 1) rfl rfl (Nat.le_of_ble_eq_true rfl) rfl (fun ls hl => ?_)
        refine g_goto (tgt := 133) G dX0_init_156 rfl ?_
        exact ih133 _ _ _ _ hf hM ls (lv_sub hl [1, 0] rfl)
  exact L133 FU _ _ _ _ hf hM ls (lv_sub hl [1, 0] rfl)
