/-! PART 30l.c (printed by dc.py, mkc.py) -/
set_option maxRecDepth 100000
theorem pcy_J0_init : pcY yJ0_init cJ0_init 1 none 0 := ⟨q208, q147, ⟨by decide +kernel, by decide +kernel, by decide +kernel⟩, Nat.le_of_ble_eq_true rfl⟩
noncomputable def fJ0_init (a0 : Nat) (h : PH) : Option (PH) :=
  some h
set_option maxHeartbeats 1000000 in
theorem kJ0_init {l : Launch} {D : PD} {A : Nat → Prop} {cap : Nat × Nat} {a0 : Nat} {h h' : PH} (hf : fJ0_init a0 h = some h') : CMet l D A cap yJ0_init cJ0_init 1 none 2 [.ref a0] h h' (none) := by
  unfold fJ0_init at hf
  refine p_head (own := RJ0) (ini := true) (pn_J0 rfl) rfl (fun q => rfl) (Nat.le_of_ble_eq_true rfl) (fun m Z cx sx H0 ls X hM hl => ?_)
  have G := X.g
  have hl : lv_has ls 1 [(0, .ref a0)] := hl
  refine g_aload_n G dJ0_init_0 rfl (lv_at hl 0 rfl) ?_
  refine p_obj X hl q209 q190 q191 (by decide) (Nat.le_of_ble_eq_true rfl) dJ0_init_1 ?_
  exact p_vret X hM hf dJ0_init_4
theorem pcy_J1_init : pcY yJ1_init cJ1_init 1 none 0 := ⟨q205, q148, ⟨by decide +kernel, by decide +kernel, by decide +kernel⟩, Nat.le_of_ble_eq_true rfl⟩
noncomputable def fJ1_init (a0 : Nat) (h : PH) : Option (PH) :=
  bnv (fJ0_init a0 h) fun h1 =>
  bnv (pPut h1 a0 21 0 (.int 0)) fun h2 =>
  some h2
set_option maxHeartbeats 1000000 in
theorem kJ1_init {l : Launch} {D : PD} {A : Nat → Prop} {cap : Nat × Nat} {a0 : Nat} {h h' : PH} (hf : fJ1_init a0 h = some h') : CMet l D A cap yJ1_init cJ1_init 1 none 3 [.ref a0] h h' (none) := by
  unfold fJ1_init at hf
  refine p_head (own := RJ1) (ini := true) (pn_J1 rfl) rfl (fun q => rfl) (Nat.le_of_ble_eq_true rfl) (fun m Z cx sx H0 ls X hM hl => ?_)
  have G := X.g
  have hl : lv_has ls 1 [(0, .ref a0)] := hl
  refine g_aload_n G dJ1_init_0 rfl (lv_at hl 0 rfl) ?_
  obtain ⟨h1, g1, hf⟩ := bnv_open hf
  refine p_callI_v (As := []) (rest := []) X hM hl pcy_J0_init rfl q206 q207 (kJ0_init g1) rfl (Nat.le_of_ble_eq_true rfl) (Nat.le_of_ble_eq_true rfl) rfl dJ1_init_1 (fun H locs hM => ?_)
  refine g_aload_n G dJ1_init_4 rfl (lv_at hl 0 rfl) ?_
  refine g_iconst (v := 0) G dJ1_init_5 rfl ?_
  obtain ⟨h2, g2, hf⟩ := bnv_open hf
  refine p_put (k := 0) X hM pc_21 (by decide) q216 rfl rfl rfl rfl g2 dJ1_init_6 (fun H locs hM => ?_)
  exact p_vret X hM hf dJ1_init_9
theorem pcy_J2_init : pcY yJ2_init cJ2_init 2 none 1 := ⟨q202, q149, ⟨by decide +kernel, by decide +kernel, by decide +kernel⟩, Nat.le_of_ble_eq_true rfl⟩
noncomputable def fJ2_init (D : PD) (cap : Nat × Nat) (a0 : Nat) (a1 : Int32) (h : PH) : Option (PH) :=
  bnv (fJ1_init a0 h) fun h1 =>
  if a1 ≤ 0 then
    if a1 = 0 then
      vA (some (dS D 5)) fun p1 =>
      bnv (pPut h1 a0 21 1 (.ref p1)) fun h2 =>
      some h2
    else
      none
  else
    ck (!decide (a1 < 0) && decide ((Int32.toNatClampNeg a1) ≤ 100000)) <|
    bnd (pNew cap h1 (.inl (4, (Int32.toNatClampNeg a1), .inr (.inr (.inr (.inr (fun _ => none)))))) (Int32.toNatClampNeg a1)) fun p2 h3 =>
    bnv (pPut h3 a0 21 1 (.ref p2)) fun h4 =>
    some h4
set_option maxHeartbeats 1000000 in
theorem kJ2_init {l : Launch} {D : PD} {A : Nat → Prop} {cap : Nat × Nat} {a0 : Nat} {a1 : Int32} {h h' : PH} (hf : fJ2_init D cap a0 a1 h = some h') : CMet l D A cap yJ2_init cJ2_init 2 none 4 [.ref a0, .int a1] h h' (none) := by
  unfold fJ2_init at hf
  refine p_head (own := RJ2) (ini := true) (pn_J2 rfl) rfl (fun q => rfl) (Nat.le_of_ble_eq_true rfl) (fun m Z cx sx H0 ls X hM hl => ?_)
  have G := X.g
  have hl : lv_has ls 2 [(0, .ref a0), (1, .int a1)] := hl
  refine g_aload_n G dJ2_init_0 rfl (lv_at hl 0 rfl) ?_
  obtain ⟨h1, g1, hf⟩ := bnv_open hf
  refine p_callI_v (As := []) (rest := []) X hM hl pcy_J1_init rfl q203 q204 (kJ1_init g1) rfl (Nat.le_of_ble_eq_true rfl) (Nat.le_of_ble_eq_true rfl) rfl dJ2_init_1 (fun H locs hM => ?_)
  refine g_iload_n G dJ2_init_4 rfl (lv_at hl 1 rfl) ?_
  refine g_if_le (tgt := 19) G dJ2_init_5 rfl (fun c1 => ?_) (fun c1 => ?_)
  · have hf := it_pos c1 hf
    refine g_iload_n G dJ2_init_19 rfl (lv_at hl 1 rfl) ?_
    refine g_if_ne (tgt := 33) G dJ2_init_20 rfl (fun c2 => ?_) (fun c2 => ?_)
    · have hf := it_neg c2 hf
      exact absurd hf (by intro q; cases q)
    · have hf := it_pos c2 hf
      refine g_aload_n G dJ2_init_23 rfl (lv_at hl 0 rfl) ?_
      obtain ⟨p1, g2, hf⟩ := vA_open hf
      refine p_gets X hM (i := 5) rfl q212 dJ2_init_24 ?_
      rw [Option.some.inj g2]
      obtain ⟨h2, g3, hf⟩ := bnv_open hf
      refine p_put (k := 1) X hM pc_21 (by decide) q214 rfl rfl rfl rfl g3 dJ2_init_27 (fun H locs hM => ?_)
      refine g_goto (tgt := 60) G dJ2_init_30 rfl ?_
      exact p_vret X hM hf dJ2_init_60
  · have hf := it_neg c1 hf
    refine g_aload_n G dJ2_init_8 rfl (lv_at hl 0 rfl) ?_
    refine g_iload_n G dJ2_init_9 rfl (lv_at hl 1 rfl) ?_
    obtain ⟨b1, hf⟩ := ck_open hf
    obtain ⟨p2, h3, g4, hf⟩ := bnd_open hf
    refine p_newO X hM q210 b1 g4 dJ2_init_10 (fun H locs hM => ?_)
    obtain ⟨h4, g5, hf⟩ := bnv_open hf
    refine p_put (k := 1) X hM pc_21 (by decide) q214 rfl rfl rfl rfl g5 dJ2_init_13 (fun H locs hM => ?_)
    refine g_goto (tgt := 60) G dJ2_init_16 rfl ?_
    exact p_vret X hM hf dJ2_init_60
theorem pcy_J10_newLength : pcY yJ10_newLength cJ10_newLength 4 (Option.some Jvm.ClassFile.FieldType.int) 3 := ⟨q833, q162, ⟨by decide +kernel, by decide +kernel, by decide +kernel⟩, Nat.le_of_ble_eq_true rfl⟩
noncomputable def fJ10_newLength (a1 : Int32) (a2 : Int32) (a3 : Int32) (h : PH) : Option (Int32 × PH) :=
  bnd (fJ12_max a2 a3 h) fun r1 h1 =>
  jn (fun (h2 : PH) =>
    none) fun j21 =>
  if (a1 + r1) ≤ (0 : Int32) then
    j21 h1
  else
    if (2147483639 : Int32) < (a1 + r1) then
      j21 h1
    else
      some ((a1 + r1), h1)
set_option maxHeartbeats 1000000 in
theorem kJ10_newLength {l : Launch} {D : PD} {A : Nat → Prop} {cap : Nat × Nat} {a1 : Int32} {a2 : Int32} {a3 : Int32} {h h' : PH} {r : Int32} (hf : fJ10_newLength a1 a2 a3 h = some (r, h')) : CMet l D A cap yJ10_newLength cJ10_newLength 4 (Option.some Jvm.ClassFile.FieldType.int) 2 [.int a1, .int a2, .int a3] h h' (some (.int r)) := by
  unfold fJ10_newLength at hf
  refine p_head (own := RJ10) (ini := false) (pn_J10 rfl) rfl (fun q => by cases q) (Nat.le_of_ble_eq_true rfl) (fun m Z cx sx H0 ls X hM hl => ?_)
  have G := X.g
  have hl : lv_has ls 4 [(0, .int a1), (1, .int a2), (2, .int a3)] := hl
  refine g_iload_n G dJ10_newLength_0 rfl (lv_at hl 0 rfl) ?_
  refine g_iload_n G dJ10_newLength_1 rfl (lv_at hl 1 rfl) ?_
  refine g_iload_n G dJ10_newLength_2 rfl (lv_at hl 2 rfl) ?_
  obtain ⟨r1, h1, g1, hf⟩ := bnd_open hf
  refine p_callS_r (As := [.int a2, .int a3]) (rest := [.int a1]) X hM hl pcy_J12_max q834 q835 (kJ12_max g1) rfl (Nat.le_of_ble_eq_true rfl) (Nat.le_of_ble_eq_true rfl) rfl dJ10_newLength_3 (fun H locs hM => ?_)
  refine g_iadd G dJ10_newLength_6 ?_
  refine g_istore_n (i := 3) (lv' := [(3, .int (a1 + r1)), (0, .int a1), (1, .int a2), (2, .int a3)]) G dJ10_newLength_7 rfl hl (Nat.le_of_ble_eq_true rfl) rfl (fun ls hl => ?_)
  refine g_iconst (v := 0) G dJ10_newLength_8 rfl ?_
  refine g_iload_n G dJ10_newLength_9 rfl (lv_at hl 0 rfl) ?_
  obtain ⟨j21, ej21, hf⟩ := jn_open hf
  have J21 : ∀ (h2 : PH) (H : Heap) (locs : List Loc), j21 h2 = some (r, h') → PI D A cap H0 h2 H locs → ∀ ls : Array Slot, lv_has ls 4 [(0, .int a1), (1, .int a2)] → Z H locs (cx H) (sx H) (F0 m 21 ls []) := by
    intro h2 H locs hf hM ls hl
    rw [ej21] at hf
    exact absurd hf (by intro q; cases q)
  refine g_icmp_ge (tgt := 21) G dJ10_newLength_10 rfl (fun c1 => ?_) (fun c1 => ?_)
  · have hf := it_pos c1 hf
    exact J21 _ _ _ hf hM ls (lv_sub hl [1, 2] rfl)
  · have hf := it_neg c1 hf
    refine g_iload_n G dJ10_newLength_13 rfl (lv_at hl 0 rfl) ?_
    refine g_ldc G q837 dJ10_newLength_14 ?_
    refine g_icmp_gt (tgt := 21) G dJ10_newLength_16 rfl (fun c2 => ?_) (fun c2 => ?_)
    · have hf := it_pos c2 hf
      exact J21 _ _ _ hf hM ls (lv_sub hl [1, 2] rfl)
    · have hf := it_neg c2 hf
      refine g_iload_n G dJ10_newLength_19 rfl (lv_at hl 0 rfl) ?_
      exact p_iret X hM hf dJ10_newLength_20
theorem pcy_J13_copyOf_2 : pcY yJ13_copyOf_2 cJ13_copyOf_2 4 (Option.some (Jvm.ClassFile.FieldType.array (Jvm.ClassFile.FieldType.object "java/lang/Object"))) 3 := ⟨q873, q166, ⟨by decide +kernel, by decide +kernel, by decide +kernel⟩, Nat.le_of_ble_eq_true rfl⟩
noncomputable def fJ13_copyOf_2 (D : PD) (cap : Nat × Nat) (a1 : Nat) (a2 : Int32) (a3 : Nat) (h : PH) : Option (Nat × PH) :=
  if a3 = (dK D 40) then
    ck (!decide (a2 < 0) && decide ((Int32.toNatClampNeg a2) ≤ 100000)) <|
    bnd (pNew cap h (.inl (4, (Int32.toNatClampNeg a2), .inr (.inr (.inr (.inr (fun _ => none)))))) (Int32.toNatClampNeg a2)) fun p1 h1 =>
    ob (pArr h1 a1 4) fun w1 =>
    bnd (fJ12_min (nI w1.1) a2 h1) fun r1 h2 =>
    bnv (pCpQ h2 a1 p1 4 r1) fun h3 =>
    some (p1, h3)
  else
    none
set_option maxHeartbeats 1000000 in
theorem kJ13_copyOf_2 {l : Launch} {D : PD} {A : Nat → Prop} {cap : Nat × Nat} {a1 : Nat} {a2 : Int32} {a3 : Nat} {h h' : PH} {r : Nat} (hf : fJ13_copyOf_2 D cap a1 a2 a3 h = some (r, h')) : CMet l D A cap yJ13_copyOf_2 cJ13_copyOf_2 4 (Option.some (Jvm.ClassFile.FieldType.array (Jvm.ClassFile.FieldType.object "java/lang/Object"))) 2 [.ref a1, .int a2, .ref a3] h h' (some (.ref r)) := by
  unfold fJ13_copyOf_2 at hf
  refine p_head (own := RJ13) (ini := false) (pn_J13 rfl) rfl (fun q => by cases q) (Nat.le_of_ble_eq_true rfl) (fun m Z cx sx H0 ls X hM hl => ?_)
  have G := X.g
  have hl : lv_has ls 4 [(0, .ref a1), (1, .int a2), (2, .ref a3)] := hl
  refine g_aload_n G dJ13_copyOf_2_0 rfl (lv_at hl 2 rfl) ?_
  refine p_ldcM X q874 dJ13_copyOf_2_1 ?_
  refine g_acmp_ne (tgt := 13) G dJ13_copyOf_2_3 rfl (fun c1 => ?_) (fun c1 => ?_)
  · have hf := it_neg c1 hf
    exact absurd hf (by intro q; cases q)
  · have hf := it_pos c1 hf
    refine g_iload_n G dJ13_copyOf_2_6 rfl (lv_at hl 1 rfl) ?_
    obtain ⟨b1, hf⟩ := ck_open hf
    obtain ⟨p1, h1, g1, hf⟩ := bnd_open hf
    refine p_newO X hM q875 b1 g1 dJ13_copyOf_2_7 (fun H locs hM => ?_)
    refine g_goto (tgt := 24) G dJ13_copyOf_2_10 rfl ?_
    refine g_astore_n (i := 3) (lv' := [(3, .ref p1), (0, .ref a1), (1, .int a2), (2, .ref a3)]) G dJ13_copyOf_2_24 rfl hl (Nat.le_of_ble_eq_true rfl) rfl (fun ls hl => ?_)
    refine g_aload_n G dJ13_copyOf_2_25 rfl (lv_at hl 1 rfl) ?_
    refine g_iconst (v := 0) G dJ13_copyOf_2_26 rfl ?_
    refine g_aload_n G dJ13_copyOf_2_27 rfl (lv_at hl 0 rfl) ?_
    refine g_iconst (v := 0) G dJ13_copyOf_2_28 rfl ?_
    refine g_aload_n G dJ13_copyOf_2_29 rfl (lv_at hl 1 rfl) ?_
    obtain ⟨w1, g2, hf⟩ := ob_open hf
    refine p_alen X hM (kd := 4) (by decide) g2 rfl dJ13_copyOf_2_30 ?_
    refine g_iload_n G dJ13_copyOf_2_31 rfl (lv_at hl 2 rfl) ?_
    obtain ⟨r1, h2, g3, hf⟩ := bnd_open hf
    refine p_callS_r (As := [.int (nI w1.1), .int a2]) (rest := [.int 0, .ref p1, .int 0, .ref a1]) X hM hl pcy_J12_min q876 q877 (kJ12_min g3) rfl (Nat.le_of_ble_eq_true rfl) (Nat.le_of_ble_eq_true rfl) rfl dJ13_copyOf_2_32 (fun H locs hM => ?_)
    obtain ⟨h3, g4, hf⟩ := bnv_open hf
    refine p_copyQ X hM hl q879 q881 q880 q167 g4 (Nat.le_of_ble_eq_true rfl) (Nat.le_of_ble_eq_true rfl) dJ13_copyOf_2_35 (fun H locs hM => ?_)
    refine g_aload_n G dJ13_copyOf_2_38 rfl (lv_at hl 0 rfl) ?_
    exact p_aret X (Or.inr ⟨_, rfl⟩) hM hf dJ13_copyOf_2_39
theorem pcy_J13_copyOf : pcY yJ13_copyOf cJ13_copyOf 2 (Option.some (Jvm.ClassFile.FieldType.array (Jvm.ClassFile.FieldType.object "java/lang/Object"))) 2 := ⟨q843, q166, ⟨by decide +kernel, by decide +kernel, by decide +kernel⟩, Nat.le_of_ble_eq_true rfl⟩
noncomputable def fJ13_copyOf (D : PD) (cap : Nat × Nat) (a1 : Nat) (a2 : Int32) (h : PH) : Option (Nat × PH) :=
  ob (pArr h a1 4) fun w1 =>
  bnd (fJ13_copyOf_2 D cap a1 a2 (dK D 40) h) fun p1 h1 =>
  some (p1, h1)
set_option maxHeartbeats 1000000 in
theorem kJ13_copyOf {l : Launch} {D : PD} {A : Nat → Prop} {cap : Nat × Nat} {a1 : Nat} {a2 : Int32} {h h' : PH} {r : Nat} (hf : fJ13_copyOf D cap a1 a2 h = some (r, h')) : CMet l D A cap yJ13_copyOf cJ13_copyOf 2 (Option.some (Jvm.ClassFile.FieldType.array (Jvm.ClassFile.FieldType.object "java/lang/Object"))) 3 [.ref a1, .int a2] h h' (some (.ref r)) := by
  unfold fJ13_copyOf at hf
  refine p_head (own := RJ13) (ini := false) (pn_J13 rfl) rfl (fun q => by cases q) (Nat.le_of_ble_eq_true rfl) (fun m Z cx sx H0 ls X hM hl => ?_)
  have G := X.g
  have hl : lv_has ls 2 [(0, .ref a1), (1, .int a2)] := hl
  refine g_aload_n G dJ13_copyOf_0 rfl (lv_at hl 0 rfl) ?_
  refine g_iload_n G dJ13_copyOf_1 rfl (lv_at hl 1 rfl) ?_
  refine g_aload_n G dJ13_copyOf_2 rfl (lv_at hl 0 rfl) ?_
  obtain ⟨w1, g1, hf⟩ := ob_open hf
  refine p_getC X hM hl g1 q844 (Nat.le_of_ble_eq_true rfl) (Nat.le_of_ble_eq_true rfl) dJ13_copyOf_3 ?_
  obtain ⟨p1, h1, g2, hf⟩ := bnd_open hf
  refine p_callS_r (As := [.ref a1, .int a2, .ref (dK D 40)]) (rest := []) X hM hl pcy_J13_copyOf_2 q871 q872 (kJ13_copyOf_2 g2) rfl (Nat.le_of_ble_eq_true rfl) (Nat.le_of_ble_eq_true rfl) rfl dJ13_copyOf_6 (fun H locs hM => ?_)
  exact p_aret X (Or.inr ⟨_, rfl⟩) hM hf dJ13_copyOf_9
theorem pcy_J2_grow_2 : pcY yJ2_grow_2 cJ2_grow_2 4 (Option.some (Jvm.ClassFile.FieldType.array (Jvm.ClassFile.FieldType.object "java/lang/Object"))) 1 := ⟨q828, q149, ⟨by decide +kernel, by decide +kernel, by decide +kernel⟩, Nat.le_of_ble_eq_true rfl⟩
noncomputable def fJ2_grow_2 (D : PD) (cap : Nat × Nat) (a0 : Nat) (a1 : Int32) (h : PH) : Option (Nat × PH) :=
  vA (pF h a0 21 1) fun p1 =>
  ob (pArr h p1 4) fun w1 =>
  jn (fun (h1 : PH) =>
    bnd (fJ10_newLength (nI w1.1) (a1 - (nI w1.1)) ((nI w1.1) >>> (1 &&& 31)) h1) fun r1 h2 =>
    vA (pF h2 a0 21 1) fun p2 =>
    bnd (fJ13_copyOf D cap p2 r1 h2) fun p3 h3 =>
    bnv (pPut h3 a0 21 1 (.ref p3)) fun h4 =>
    some (p3, h4)) fun j20 =>
  if 0 < (nI w1.1) then
    j20 h
  else
    vA (pF h a0 21 1) fun p4 =>
    vA (some (dS D 6)) fun p5 =>
    if p4 = p5 then
      bnd (fJ12_max 10 a1 h) fun r2 h5 =>
      ck (!decide (r2 < 0) && decide ((Int32.toNatClampNeg r2) ≤ 100000)) <|
      bnd (pNew cap h5 (.inl (4, (Int32.toNatClampNeg r2), .inr (.inr (.inr (.inr (fun _ => none)))))) (Int32.toNatClampNeg r2)) fun p6 h6 =>
      bnv (pPut h6 a0 21 1 (.ref p6)) fun h7 =>
      some (p6, h7)
    else
      j20 h
set_option maxHeartbeats 1000000 in
theorem kJ2_grow_2 {l : Launch} {D : PD} {A : Nat → Prop} {cap : Nat × Nat} {a0 : Nat} {a1 : Int32} {h h' : PH} {r : Nat} (hf : fJ2_grow_2 D cap a0 a1 h = some (r, h')) : CMet l D A cap yJ2_grow_2 cJ2_grow_2 4 (Option.some (Jvm.ClassFile.FieldType.array (Jvm.ClassFile.FieldType.object "java/lang/Object"))) 4 [.ref a0, .int a1] h h' (some (.ref r)) := by
  unfold fJ2_grow_2 at hf
  refine p_head (own := RJ2) (ini := false) (pn_J2 rfl) rfl (fun q => by cases q) (Nat.le_of_ble_eq_true rfl) (fun m Z cx sx H0 ls X hM hl => ?_)
  have G := X.g
  have hl : lv_has ls 4 [(0, .ref a0), (1, .int a1)] := hl
  refine g_aload_n G dJ2_grow_2_0 rfl (lv_at hl 0 rfl) ?_
  obtain ⟨p1, g1, hf⟩ := vA_open hf
  refine p_get (k := 1) X hM pc_21 (by decide) q214 rfl g1 dJ2_grow_2_1 ?_
  obtain ⟨w1, g2, hf⟩ := ob_open hf
  refine p_alen X hM (kd := 4) (by decide) g2 rfl dJ2_grow_2_4 ?_
  refine g_istore_n (i := 2) (lv' := [(2, .int (nI w1.1)), (0, .ref a0), (1, .int a1)]) G dJ2_grow_2_5 rfl hl (Nat.le_of_ble_eq_true rfl) rfl (fun ls hl => ?_)
  refine g_iload_n G dJ2_grow_2_6 rfl (lv_at hl 0 rfl) ?_
  obtain ⟨j20, ej20, hf⟩ := jn_open hf
  have J20 : ∀ (h1 : PH) (H : Heap) (locs : List Loc), j20 h1 = some (r, h') → PI D A cap H0 h1 H locs → ∀ ls : Array Slot, lv_has ls 4 [(0, .ref a0), (1, .int a1), (2, .int (nI w1.1))] → Z H locs (cx H) (sx H) (F0 m 20 ls []) := by
    intro h1 H locs hf hM ls hl
    rw [ej20] at hf
    refine g_iload_n G dJ2_grow_2_20 rfl (lv_at hl 2 rfl) ?_
    refine g_iload_n G dJ2_grow_2_21 rfl (lv_at hl 1 rfl) ?_
    refine g_iload_n G dJ2_grow_2_22 rfl (lv_at hl 2 rfl) ?_
    refine g_isub G dJ2_grow_2_23 ?_
    refine g_iload_n G dJ2_grow_2_24 rfl (lv_at hl 2 rfl) ?_
    refine g_iconst (v := 1) G dJ2_grow_2_25 rfl ?_
    refine g_ishr G dJ2_grow_2_26 ?_
    obtain ⟨r1, h2, g3, hf⟩ := bnd_open hf
    refine p_callS_r (As := [.int (nI w1.1), .int (a1 - (nI w1.1)), .int ((nI w1.1) >>> (1 &&& 31))]) (rest := []) X hM hl pcy_J10_newLength q831 q832 (kJ10_newLength g3) rfl (Nat.le_of_ble_eq_true rfl) (Nat.le_of_ble_eq_true rfl) rfl dJ2_grow_2_27 (fun H locs hM => ?_)
    refine g_istore_n (i := 3) (lv' := [(3, .int r1), (0, .ref a0), (1, .int a1), (2, .int (nI w1.1))]) G dJ2_grow_2_30 rfl hl (Nat.le_of_ble_eq_true rfl) rfl (fun ls hl => ?_)
    refine g_aload_n G dJ2_grow_2_31 rfl (lv_at hl 1 rfl) ?_
    refine g_aload_n G dJ2_grow_2_32 rfl (lv_at hl 1 rfl) ?_
    obtain ⟨p2, g4, hf⟩ := vA_open hf
    refine p_get (k := 1) X hM pc_21 (by decide) q214 rfl g4 dJ2_grow_2_33 ?_
    refine g_iload_n G dJ2_grow_2_36 rfl (lv_at hl 0 rfl) ?_
    obtain ⟨p3, h3, g5, hf⟩ := bnd_open hf
    refine p_callS_r (As := [.ref p2, .int r1]) (rest := [.ref a0]) X hM hl pcy_J13_copyOf q841 q842 (kJ13_copyOf g5) rfl (Nat.le_of_ble_eq_true rfl) (Nat.le_of_ble_eq_true rfl) rfl dJ2_grow_2_37 (fun H locs hM => ?_)
    refine g_dup_x1 G dJ2_grow_2_40 rfl rfl ?_
    obtain ⟨h4, g6, hf⟩ := bnv_open hf
    refine p_put (k := 1) X hM pc_21 (by decide) q214 rfl rfl rfl rfl g6 dJ2_grow_2_41 (fun H locs hM => ?_)
    exact p_aret X (Or.inr ⟨_, rfl⟩) hM hf dJ2_grow_2_44
  refine g_if_gt (tgt := 20) G dJ2_grow_2_7 rfl (fun c1 => ?_) (fun c1 => ?_)
  · have hf := it_pos c1 hf
    exact J20 _ _ _ hf hM ls (lv_sub hl [1, 2, 0] rfl)
  · have hf := it_neg c1 hf
    refine g_aload_n G dJ2_grow_2_10 rfl (lv_at hl 1 rfl) ?_
    obtain ⟨p4, g7, hf⟩ := vA_open hf
    refine p_get (k := 1) X hM pc_21 (by decide) q214 rfl g7 dJ2_grow_2_11 ?_
    obtain ⟨p5, g8, hf⟩ := vA_open hf
    refine p_gets X hM (i := 6) rfl q829 dJ2_grow_2_14 ?_
    rw [Option.some.inj g8]
    refine g_acmp_eq (tgt := 45) G dJ2_grow_2_17 rfl (fun c2 => ?_) (fun c2 => ?_)
    · have hf := it_pos c2 hf
      refine g_aload_n G dJ2_grow_2_45 rfl (lv_at hl 1 rfl) ?_
      refine g_bipush (v := 10) G dJ2_grow_2_46 rfl ?_
      refine g_iload_n G dJ2_grow_2_48 rfl (lv_at hl 2 rfl) ?_
      obtain ⟨r2, h5, g9, hf⟩ := bnd_open hf
      refine p_callS_r (As := [.int 10, .int a1]) (rest := [.ref a0]) X hM hl pcy_J12_max q882 q835 (kJ12_max g9) rfl (Nat.le_of_ble_eq_true rfl) (Nat.le_of_ble_eq_true rfl) rfl dJ2_grow_2_49 (fun H locs hM => ?_)
      obtain ⟨b1, hf⟩ := ck_open hf
      obtain ⟨p6, h6, g10, hf⟩ := bnd_open hf
      refine p_newO X hM q210 b1 g10 dJ2_grow_2_52 (fun H locs hM => ?_)
      refine g_dup_x1 G dJ2_grow_2_55 rfl rfl ?_
      obtain ⟨h7, g11, hf⟩ := bnv_open hf
      refine p_put (k := 1) X hM pc_21 (by decide) q214 rfl rfl rfl rfl g11 dJ2_grow_2_56 (fun H locs hM => ?_)
      exact p_aret X (Or.inr ⟨_, rfl⟩) hM hf dJ2_grow_2_59
    · have hf := it_neg c2 hf
      exact J20 _ _ _ hf hM ls (lv_sub hl [1, 2, 0] rfl)
theorem pcy_J2_grow : pcY yJ2_grow cJ2_grow 1 (Option.some (Jvm.ClassFile.FieldType.array (Jvm.ClassFile.FieldType.object "java/lang/Object"))) 0 := ⟨q824, q149, ⟨by decide +kernel, by decide +kernel, by decide +kernel⟩, Nat.le_of_ble_eq_true rfl⟩
noncomputable def fJ2_grow (D : PD) (cap : Nat × Nat) (a0 : Nat) (h : PH) : Option (Nat × PH) :=
  vI (pF h a0 21 2) fun v1 =>
  ckc (pCls h a0) 21 <|
  bnd (fJ2_grow_2 D cap a0 (v1 + 1) h) fun p1 h1 =>
  some (p1, h1)
set_option maxHeartbeats 1000000 in
theorem kJ2_grow {l : Launch} {D : PD} {A : Nat → Prop} {cap : Nat × Nat} {a0 : Nat} {h h' : PH} {r : Nat} (hf : fJ2_grow D cap a0 h = some (r, h')) : CMet l D A cap yJ2_grow cJ2_grow 1 (Option.some (Jvm.ClassFile.FieldType.array (Jvm.ClassFile.FieldType.object "java/lang/Object"))) 5 [.ref a0] h h' (some (.ref r)) := by
  unfold fJ2_grow at hf
  refine p_head (own := RJ2) (ini := false) (pn_J2 rfl) rfl (fun q => by cases q) (Nat.le_of_ble_eq_true rfl) (fun m Z cx sx H0 ls X hM hl => ?_)
  have G := X.g
  have hl : lv_has ls 1 [(0, .ref a0)] := hl
  refine g_aload_n G dJ2_grow_0 rfl (lv_at hl 0 rfl) ?_
  refine g_aload_n G dJ2_grow_1 rfl (lv_at hl 0 rfl) ?_
  obtain ⟨v1, g1, hf⟩ := vI_open hf
  refine p_get (k := 2) X hM pc_21 (by decide) q215 rfl g1 dJ2_grow_2 ?_
  refine g_iconst (v := 1) G dJ2_grow_5 rfl ?_
  refine g_iadd G dJ2_grow_6 ?_
  obtain ⟨b1, hf⟩ := ckc_open hf
  obtain ⟨p1, h1, g2, hf⟩ := bnd_open hf
  refine p_callV_r (ci := 21) (As := [.int (v1 + 1)]) (rest := []) X hM hl rfl b1 pcy_J2_grow_2 q825 q827 qs18 (kJ2_grow_2 g2) rfl (Nat.le_of_ble_eq_true rfl) (Nat.le_of_ble_eq_true rfl) rfl dJ2_grow_7 (fun H locs hM => ?_)
  exact p_aret X (Or.inr ⟨_, rfl⟩) hM hf dJ2_grow_10
theorem pcy_J2_add_2 : pcY yJ2_add_2 cJ2_add_2 4 none 3 := ⟨q820, q149, ⟨by decide +kernel, by decide +kernel, by decide +kernel⟩, Nat.le_of_ble_eq_true rfl⟩
noncomputable def fJ2_add_2 (D : PD) (cap : Nat × Nat) (a0 : Nat) (a1 : Option Nat) (a2 : Nat) (a3 : Int32) (h : PH) : Option (PH) :=
  ob (pArr h a2 4) fun w1 =>
  jn (fun (x1 : Nat) (h1 : PH) =>
    qS a1 fun n1 =>
    ck (isEl (pCls h1 n1)) <|
    bnv (pStQ h1 x1 4 a3 (some n1)) fun h2 =>
    bnv (pPut h2 a0 21 2 (.int (a3 + 1))) fun h3 =>
    some h3) fun j11 =>
  if a3 = (nI w1.1) then
    ckc (pCls h a0) 21 <|
    bnd (fJ2_grow D cap a0 h) fun p1 h4 =>
    j11 p1 h4
  else
    j11 a2 h
set_option maxHeartbeats 1000000 in
theorem kJ2_add_2 {l : Launch} {D : PD} {A : Nat → Prop} {cap : Nat × Nat} {a0 : Nat} {a1 : Option Nat} {a2 : Nat} {a3 : Int32} {h h' : PH} (hf : fJ2_add_2 D cap a0 a1 a2 a3 h = some h') : CMet l D A cap yJ2_add_2 cJ2_add_2 4 none 6 [.ref a0, va_rf a1, .ref a2, .int a3] h h' (none) := by
  unfold fJ2_add_2 at hf
  refine p_head (own := RJ2) (ini := false) (pn_J2 rfl) rfl (fun q => by cases q) (by simp [lg_sl, cat_q, cat_i, cat_l, cat_r]) (fun m Z cx sx H0 ls X hM hl => ?_)
  have G := X.g
  have hl : lv_has ls 4 [(0, .ref a0), (1, va_rf a1), (2, .ref a2), (3, .int a3)] := by simpa [lv_args, cat_q, cat_i, cat_l, cat_r] using hl
  refine g_iload_n G dJ2_add_2_0 rfl (lv_at hl 3 rfl) ?_
  refine g_aload_n G dJ2_add_2_1 rfl (lv_at hl 2 rfl) ?_
  obtain ⟨w1, g1, hf⟩ := ob_open hf
  refine p_alen X hM (kd := 4) (by decide) g1 rfl dJ2_add_2_2 ?_
  obtain ⟨j11, ej11, hf⟩ := jn_open hf
  have J11 : ∀ (x1 : Nat) (h1 : PH) (H : Heap) (locs : List Loc), j11 x1 h1 = some h' → PI D A cap H0 h1 H locs → ∀ ls : Array Slot, lv_has ls 4 [(0, .ref a0), (1, va_rf a1), (2, .ref x1), (3, .int a3)] → Z H locs (cx H) (sx H) (F0 m 11 ls []) := by
    intro x1 h1 H locs hf hM ls hl
    rw [ej11] at hf
    refine g_aload_n G dJ2_add_2_11 rfl (lv_at hl 2 rfl) ?_
    refine g_iload_n G dJ2_add_2_12 rfl (lv_at hl 3 rfl) ?_
    refine g_aload_nQ G dJ2_add_2_13 rfl (lv_at hl 1 rfl) ?_
    obtain ⟨n1, e1, hfq⟩ := qS_open hf
    clear hf; subst e1; have hf := hfq; clear hfq
    obtain ⟨b1, hf⟩ := ck_open hf
    obtain ⟨h2, g2, hf⟩ := bnv_open hf
    refine p_astO X hM b1 g2 dJ2_add_2_14 (fun H locs hM => ?_)
    refine g_aload_n G dJ2_add_2_15 rfl (lv_at hl 0 rfl) ?_
    refine g_iload_n G dJ2_add_2_16 rfl (lv_at hl 3 rfl) ?_
    refine g_iconst (v := 1) G dJ2_add_2_17 rfl ?_
    refine g_iadd G dJ2_add_2_18 ?_
    obtain ⟨h3, g3, hf⟩ := bnv_open hf
    refine p_put (k := 2) X hM pc_21 (by decide) q215 rfl rfl rfl rfl g3 dJ2_add_2_19 (fun H locs hM => ?_)
    exact p_vret X hM hf dJ2_add_2_22
  refine g_icmp_ne (tgt := 11) G dJ2_add_2_3 rfl (fun c1 => ?_) (fun c1 => ?_)
  · have hf := it_neg c1 hf
    exact J11 _ _ _ _ hf hM ls (lv_sub hl [0, 1, 2, 3] rfl)
  · have hf := it_pos c1 hf
    refine g_aload_n G dJ2_add_2_6 rfl (lv_at hl 0 rfl) ?_
    obtain ⟨b2, hf⟩ := ckc_open hf
    obtain ⟨p1, h4, g4, hf⟩ := bnd_open hf
    refine p_callV_r (ci := 21) (As := []) (rest := []) X hM hl rfl b2 pcy_J2_grow q821 q823 qs17 (kJ2_grow g4) rfl (Nat.le_of_ble_eq_true rfl) (Nat.le_of_ble_eq_true rfl) rfl dJ2_add_2_7 (fun H locs hM => ?_)
    refine g_astore_n (i := 2) (lv' := [(2, .ref p1), (0, .ref a0), (1, va_rf a1), (3, .int a3)]) G dJ2_add_2_10 rfl hl (Nat.le_of_ble_eq_true rfl) (by simp [cat_q, cat_i, cat_l, cat_r]) (fun ls hl => ?_)
    exact J11 _ _ _ _ hf hM ls (lv_sub hl [1, 2, 0, 3] rfl)
theorem pcy_J2_add : pcY yJ2_add cJ2_add 2 (Option.some Jvm.ClassFile.FieldType.boolean) 1 := ⟨q816, q149, ⟨by decide +kernel, by decide +kernel, by decide +kernel⟩, Nat.le_of_ble_eq_true rfl⟩
noncomputable def fJ2_add (D : PD) (cap : Nat × Nat) (a0 : Nat) (a1 : Option Nat) (h : PH) : Option (Bool × PH) :=
  vI (pF h a0 21 0) fun v1 =>
  bnv (pPut h a0 21 0 (.int (v1 + 1))) fun h1 =>
  vA (pF h1 a0 21 1) fun p1 =>
  vI (pF h1 a0 21 2) fun v2 =>
  ckc (pCls h1 a0) 21 <|
  bnv (fJ2_add_2 D cap a0 a1 p1 v2 h1) fun h2 =>
  some (true, h2)
set_option maxHeartbeats 1000000 in
theorem kJ2_add {l : Launch} {D : PD} {A : Nat → Prop} {cap : Nat × Nat} {a0 : Nat} {a1 : Option Nat} {h h' : PH} {r : Bool} (hf : fJ2_add D cap a0 a1 h = some (r, h')) : CMet l D A cap yJ2_add cJ2_add 2 (Option.some Jvm.ClassFile.FieldType.boolean) 7 [.ref a0, va_rf a1] h h' (some (.int (bI r))) := by
  unfold fJ2_add at hf
  refine p_head (own := RJ2) (ini := false) (pn_J2 rfl) rfl (fun q => by cases q) (by simp [lg_sl, cat_q, cat_i, cat_l, cat_r]) (fun m Z cx sx H0 ls X hM hl => ?_)
  have G := X.g
  have hl : lv_has ls 2 [(0, .ref a0), (1, va_rf a1)] := by simpa [lv_args, cat_q, cat_i, cat_l, cat_r] using hl
  refine g_aload_n G dJ2_add_0 rfl (lv_at hl 0 rfl) ?_
  refine g_dup G dJ2_add_1 rfl ?_
  obtain ⟨v1, g1, hf⟩ := vI_open hf
  refine p_getM (k := 0) X hM pc_21 (by decide) q217 (fun _ _ h => h _ q218) g1 dJ2_add_2 ?_
  refine g_iconst (v := 1) G dJ2_add_5 rfl ?_
  refine g_iadd G dJ2_add_6 ?_
  obtain ⟨h1, g2, hf⟩ := bnv_open hf
  refine p_putM (k := 0) X hM pc_21 (by decide) q217 (fun _ _ h => h _ q218) rfl rfl rfl g2 dJ2_add_7 (fun H locs hM => ?_)
  refine g_aload_n G dJ2_add_10 rfl (lv_at hl 0 rfl) ?_
  refine g_aload_nQ G dJ2_add_11 rfl (lv_at hl 1 rfl) ?_
  refine g_aload_n G dJ2_add_12 rfl (lv_at hl 0 rfl) ?_
  obtain ⟨p1, g3, hf⟩ := vA_open hf
  refine p_get (k := 1) X hM pc_21 (by decide) q214 rfl g3 dJ2_add_13 ?_
  refine g_aload_n G dJ2_add_16 rfl (lv_at hl 0 rfl) ?_
  obtain ⟨v2, g4, hf⟩ := vI_open hf
  refine p_get (k := 2) X hM pc_21 (by decide) q215 rfl g4 dJ2_add_17 ?_
  obtain ⟨b1, hf⟩ := ckc_open hf
  obtain ⟨h2, g5, hf⟩ := bnv_open hf
  refine p_callV_v (ci := 21) (As := [va_rf a1, .ref p1, .int v2]) (rest := []) X hM hl rfl b1 pcy_J2_add_2 q817 q819 qs16 (kJ2_add_2 g5) rfl (Nat.le_of_ble_eq_true rfl) (Nat.le_of_ble_eq_true rfl) rfl dJ2_add_20 (fun H locs hM => ?_)
  refine g_iconst (v := 1) G dJ2_add_23 rfl ?_
  exact p_zret X hM hf dJ2_add_24
theorem pcy_J14_isLatin1 : pcY yJ14_isLatin1 cJ14_isLatin1 1 (Option.some Jvm.ClassFile.FieldType.boolean) 0 := ⟨q1154, q175, ⟨by decide +kernel, by decide +kernel, by decide +kernel⟩, Nat.le_of_ble_eq_true rfl⟩
noncomputable def fJ14_isLatin1 (D : PD) (a0 : Nat) (h : PH) : Option (Bool × PH) :=
  vI (some (dS D 4)) fun v1 =>
  jn (fun (h1 : PH) =>
    some (false, h1)) fun j17 =>
  if v1 = 0 then
    j17 h
  else
    vI (pF h a0 23 1) fun v2 =>
    if v2 = 0 then
      some (true, h)
    else
      j17 h
set_option maxHeartbeats 1000000 in
theorem kJ14_isLatin1 {l : Launch} {D : PD} {A : Nat → Prop} {cap : Nat × Nat} {a0 : Nat} {h h' : PH} {r : Bool} (hf : fJ14_isLatin1 D a0 h = some (r, h')) : CMet l D A cap yJ14_isLatin1 cJ14_isLatin1 1 (Option.some Jvm.ClassFile.FieldType.boolean) 1 [.ref a0] h h' (some (.int (bI r))) := by
  unfold fJ14_isLatin1 at hf
  refine p_head (own := RJ14) (ini := false) (pn_J14 rfl) rfl (fun q => by cases q) (Nat.le_of_ble_eq_true rfl) (fun m Z cx sx H0 ls X hM hl => ?_)
  have G := X.g
  have hl : lv_has ls 1 [(0, .ref a0)] := hl
  obtain ⟨v1, g1, hf⟩ := vI_open hf
  refine p_gets X hM (i := 4) rfl q1024 dJ14_isLatin1_0 ?_
  rw [Option.some.inj g1]
  obtain ⟨j17, ej17, hf⟩ := jn_open hf
  have J17 : ∀ (h1 : PH) (H : Heap) (locs : List Loc), j17 h1 = some (r, h') → PI D A cap H0 h1 H locs → ∀ ls : Array Slot, lv_has ls 1 [] → Z H locs (cx H) (sx H) (F0 m 17 ls []) := by
    intro h1 H locs hf hM ls hl
    rw [ej17] at hf
    refine g_iconst (v := 0) G dJ14_isLatin1_17 rfl ?_
    exact p_zret X hM hf dJ14_isLatin1_18
  refine g_if_eq (tgt := 17) G dJ14_isLatin1_3 rfl (fun c1 => ?_) (fun c1 => ?_)
  · have hf := it_pos c1 hf
    exact J17 _ _ _ hf hM ls (lv_sub hl [] rfl)
  · have hf := it_neg c1 hf
    refine g_aload_n G dJ14_isLatin1_6 rfl (lv_at hl 0 rfl) ?_
    obtain ⟨v2, g2, hf⟩ := vI_open hf
    refine p_get (k := 1) X hM pc_23 (by decide) q1027 rfl g2 dJ14_isLatin1_7 ?_
    refine g_if_ne (tgt := 17) G dJ14_isLatin1_10 rfl (fun c2 => ?_) (fun c2 => ?_)
    · have hf := it_neg c2 hf
      exact J17 _ _ _ hf hM ls (lv_sub hl [] rfl)
    · have hf := it_pos c2 hf
      refine g_iconst (v := 1) G dJ14_isLatin1_13 rfl ?_
      refine g_goto (tgt := 18) G dJ14_isLatin1_14 rfl ?_
      exact p_zret X hM hf dJ14_isLatin1_18
theorem pcy_J14_init : pcY yJ14_init cJ14_init 2 none 1 := ⟨q1022, q175, ⟨by decide +kernel, by decide +kernel, by decide +kernel⟩, Nat.le_of_ble_eq_true rfl⟩
noncomputable def fJ14_init (D : PD) (cap : Nat × Nat) (a0 : Nat) (a1 : Int32) (h : PH) : Option (PH) :=
  vI (some (dS D 4)) fun v1 =>
  if v1 = 0 then
    none
  else
    ck (!decide (a1 < 0) && decide ((Int32.toNatClampNeg a1) ≤ 100000)) <|
    bnd (pNew cap h (.inl (2, (Int32.toNatClampNeg a1), .inl (fun _ => 0))) (Int32.toNatClampNeg a1)) fun p1 h1 =>
    bnv (pPut h1 a0 23 0 (.ref p1)) fun h2 =>
    bnv (pPut h2 a0 23 1 (.int 0)) fun h3 =>
    some h3
set_option maxHeartbeats 1000000 in
theorem kJ14_init {l : Launch} {D : PD} {A : Nat → Prop} {cap : Nat × Nat} {a0 : Nat} {a1 : Int32} {h h' : PH} (hf : fJ14_init D cap a0 a1 h = some h') : CMet l D A cap yJ14_init cJ14_init 2 none 2 [.ref a0, .int a1] h h' (none) := by
  unfold fJ14_init at hf
  refine p_head (own := RJ14) (ini := true) (pn_J14 rfl) rfl (fun q => rfl) (Nat.le_of_ble_eq_true rfl) (fun m Z cx sx H0 ls X hM hl => ?_)
  have G := X.g
  have hl : lv_has ls 2 [(0, .ref a0), (1, .int a1)] := hl
  refine g_aload_n G dJ14_init_0 rfl (lv_at hl 0 rfl) ?_
  refine p_obj X hl q1023 q190 q191 (by decide) (Nat.le_of_ble_eq_true rfl) dJ14_init_1 ?_
  obtain ⟨v1, g1, hf⟩ := vI_open hf
  refine p_gets X hM (i := 4) rfl q1024 dJ14_init_4 ?_
  rw [Option.some.inj g1]
  refine g_if_eq (tgt := 25) G dJ14_init_7 rfl (fun c1 => ?_) (fun c1 => ?_)
  · have hf := it_pos c1 hf
    exact absurd hf (by intro q; cases q)
  · have hf := it_neg c1 hf
    refine g_aload_n G dJ14_init_10 rfl (lv_at hl 0 rfl) ?_
    refine g_iload_n G dJ14_init_11 rfl (lv_at hl 1 rfl) ?_
    obtain ⟨b1, hf⟩ := ck_open hf
    obtain ⟨p1, h1, g2, hf⟩ := bnd_open hf
    refine p_newB X hM b1 g2 dJ14_init_12 (fun H locs hM => ?_)
    obtain ⟨h2, g3, hf⟩ := bnv_open hf
    refine p_put (k := 0) X hM pc_23 (by decide) q1026 rfl rfl rfl rfl g3 dJ14_init_14 (fun H locs hM => ?_)
    refine g_aload_n G dJ14_init_17 rfl (lv_at hl 0 rfl) ?_
    refine g_iconst (v := 0) G dJ14_init_18 rfl ?_
    obtain ⟨h3, g4, hf⟩ := bnv_open hf
    refine p_put (k := 1) X hM pc_23 (by decide) q1027 rfl rfl rfl rfl g4 dJ14_init_19 (fun H locs hM => ?_)
    refine g_goto (tgt := 38) G dJ14_init_22 rfl ?_
    exact p_vret X hM hf dJ14_init_38
theorem pcy_J15_init : pcY yJ15_init cJ15_init 1 none 0 := ⟨q1019, q176, ⟨by decide +kernel, by decide +kernel, by decide +kernel⟩, Nat.le_of_ble_eq_true rfl⟩
noncomputable def fJ15_init (D : PD) (cap : Nat × Nat) (a0 : Nat) (h : PH) : Option (PH) :=
  bnv (fJ14_init D cap a0 16 h) fun h1 =>
  some h1
set_option maxHeartbeats 1000000 in
theorem kJ15_init {l : Launch} {D : PD} {A : Nat → Prop} {cap : Nat × Nat} {a0 : Nat} {h h' : PH} (hf : fJ15_init D cap a0 h = some h') : CMet l D A cap yJ15_init cJ15_init 1 none 3 [.ref a0] h h' (none) := by
  unfold fJ15_init at hf
  refine p_head (own := RJ15) (ini := true) (pn_J15 rfl) rfl (fun q => rfl) (Nat.le_of_ble_eq_true rfl) (fun m Z cx sx H0 ls X hM hl => ?_)
  have G := X.g
  have hl : lv_has ls 1 [(0, .ref a0)] := hl
  refine g_aload_n G dJ15_init_0 rfl (lv_at hl 0 rfl) ?_
  refine g_bipush (v := 16) G dJ15_init_1 rfl ?_
  obtain ⟨h1, g1, hf⟩ := bnv_open hf
  refine p_callI_v (As := [.int 16]) (rest := []) X hM hl pcy_J14_init rfl q1020 q1021 (kJ14_init g1) rfl (Nat.le_of_ble_eq_true rfl) (Nat.le_of_ble_eq_true rfl) rfl dJ15_init_3 (fun H locs hM => ?_)
  exact p_vret X hM hf dJ15_init_6
theorem pcy_J14_newCapacity : pcY yJ14_newCapacity cJ14_newCapacity 6 (Option.some Jvm.ClassFile.FieldType.int) 1 := ⟨q1137, q175, ⟨by decide +kernel, by decide +kernel, by decide +kernel⟩, Nat.le_of_ble_eq_true rfl⟩
noncomputable def fJ14_newCapacity (D : PD) (cap : Nat × Nat) (a0 : Nat) (a1 : Int32) (h : PH) : Option (Int32 × PH) :=
  vA (pF h a0 23 0) fun p1 =>
  ob (pArr h p1 2) fun w1 =>
  vI (pF h a0 23 1) fun v1 =>
  vI (pF h a0 23 1) fun v2 =>
  bnd (fJ10_newLength (nI w1.1) ((a1 <<< (v1 &&& 31)) - (nI w1.1)) ((nI w1.1) + ((2 : Int32) <<< (v2 &&& 31))) h) fun r1 h1 =>
  if r1 = (2147483647 : Int32) then
    none
  else
    vI (pF h1 a0 23 1) fun v3 =>
    some ((r1 >>> (v3 &&& 31)), h1)
set_option maxHeartbeats 1000000 in
theorem kJ14_newCapacity {l : Launch} {D : PD} {A : Nat → Prop} {cap : Nat × Nat} {a0 : Nat} {a1 : Int32} {h h' : PH} {r : Int32} (hf : fJ14_newCapacity D cap a0 a1 h = some (r, h')) : CMet l D A cap yJ14_newCapacity cJ14_newCapacity 6 (Option.some Jvm.ClassFile.FieldType.int) 3 [.ref a0, .int a1] h h' (some (.int r)) := by
  unfold fJ14_newCapacity at hf
  refine p_head (own := RJ14) (ini := false) (pn_J14 rfl) rfl (fun q => by cases q) (Nat.le_of_ble_eq_true rfl) (fun m Z cx sx H0 ls X hM hl => ?_)
  have G := X.g
  have hl : lv_has ls 6 [(0, .ref a0), (1, .int a1)] := hl
  refine g_aload_n G dJ14_newCapacity_0 rfl (lv_at hl 0 rfl) ?_
  obtain ⟨p1, g1, hf⟩ := vA_open hf
  refine p_get (k := 0) X hM pc_23 (by decide) q1026 rfl g1 dJ14_newCapacity_1 ?_
  obtain ⟨w1, g2, hf⟩ := ob_open hf
  refine p_alen X hM (kd := 2) (by decide) g2 rfl dJ14_newCapacity_4 ?_
  refine g_istore_n (i := 2) (lv' := [(2, .int (nI w1.1)), (0, .ref a0), (1, .int a1)]) G dJ14_newCapacity_5 rfl hl (Nat.le_of_ble_eq_true rfl) rfl (fun ls hl => ?_)
  refine g_iload_n G dJ14_newCapacity_6 rfl (lv_at hl 2 rfl) ?_
  refine g_aload_n G dJ14_newCapacity_7 rfl (lv_at hl 1 rfl) ?_
  obtain ⟨v1, g3, hf⟩ := vI_open hf
  refine p_get (k := 1) X hM pc_23 (by decide) q1027 rfl g3 dJ14_newCapacity_8 ?_
  refine g_ishl G dJ14_newCapacity_11 ?_
  refine g_istore_n (i := 3) (lv' := [(3, .int (a1 <<< (v1 &&& 31))), (2, .int (nI w1.1)), (0, .ref a0), (1, .int a1)]) G dJ14_newCapacity_12 rfl hl (Nat.le_of_ble_eq_true rfl) rfl (fun ls hl => ?_)
  refine g_iload_n G dJ14_newCapacity_13 rfl (lv_at hl 0 rfl) ?_
  refine g_iload_n G dJ14_newCapacity_14 rfl (lv_at hl 1 rfl) ?_
  refine g_isub G dJ14_newCapacity_15 ?_
  refine g_istore (lv' := [(4, .int ((a1 <<< (v1 &&& 31)) - (nI w1.1))), (3, .int (a1 <<< (v1 &&& 31))), (2, .int (nI w1.1)), (0, .ref a0), (1, .int a1)]) G dJ14_newCapacity_16 hl (Nat.le_of_ble_eq_true rfl) rfl (fun ls hl => ?_)
  refine g_iload_n G dJ14_newCapacity_18 rfl (lv_at hl 2 rfl) ?_
  refine g_iload G dJ14_newCapacity_19 (lv_at hl 0 rfl) ?_
  refine g_iload_n G dJ14_newCapacity_21 rfl (lv_at hl 2 rfl) ?_
  refine g_iconst (v := 2) G dJ14_newCapacity_22 rfl ?_
  refine g_aload_n G dJ14_newCapacity_23 rfl (lv_at hl 3 rfl) ?_
  obtain ⟨v2, g4, hf⟩ := vI_open hf
  refine p_get (k := 1) X hM pc_23 (by decide) q1027 rfl g4 dJ14_newCapacity_24 ?_
  refine g_ishl G dJ14_newCapacity_27 ?_
  refine g_iadd G dJ14_newCapacity_28 ?_
  obtain ⟨r1, h1, g5, hf⟩ := bnd_open hf
  refine p_callS_r (As := [.int (nI w1.1), .int ((a1 <<< (v1 &&& 31)) - (nI w1.1)), .int ((nI w1.1) + ((2 : Int32) <<< (v2 &&& 31)))]) (rest := []) X hM hl pcy_J10_newLength q1138 q832 (kJ10_newLength g5) rfl (Nat.le_of_ble_eq_true rfl) (Nat.le_of_ble_eq_true rfl) rfl dJ14_newCapacity_29 (fun H locs hM => ?_)
  refine g_istore (lv' := [(5, .int r1), (4, .int ((a1 <<< (v1 &&& 31)) - (nI w1.1))), (3, .int (a1 <<< (v1 &&& 31))), (2, .int (nI w1.1)), (0, .ref a0), (1, .int a1)]) G dJ14_newCapacity_32 hl (Nat.le_of_ble_eq_true rfl) rfl (fun ls hl => ?_)
  refine g_iload G dJ14_newCapacity_34 (lv_at hl 0 rfl) ?_
  refine g_ldc G q1139 dJ14_newCapacity_36 ?_
  refine g_icmp_ne (tgt := 51) G dJ14_newCapacity_38 rfl (fun c1 => ?_) (fun c1 => ?_)
  · have hf := it_neg c1 hf
    refine g_iload G dJ14_newCapacity_51 (lv_at hl 0 rfl) ?_
    refine g_aload_n G dJ14_newCapacity_53 rfl (lv_at hl 4 rfl) ?_
    obtain ⟨v3, g6, hf⟩ := vI_open hf
    refine p_get (k := 1) X hM pc_23 (by decide) q1027 rfl g6 dJ14_newCapacity_54 ?_
    refine g_ishr G dJ14_newCapacity_57 ?_
    exact p_iret X hM hf dJ14_newCapacity_58
  · have hf := it_pos c1 hf
    exact absurd hf (by intro q; cases q)
theorem pcy_J13_copyOf_3 : pcY yJ13_copyOf_3 cJ13_copyOf_3 3 (Option.some (Jvm.ClassFile.FieldType.array Jvm.ClassFile.FieldType.byte)) 2 := ⟨q1142, q166, ⟨by decide +kernel, by decide +kernel, by decide +kernel⟩, Nat.le_of_ble_eq_true rfl⟩
noncomputable def fJ13_copyOf_3 (cap : Nat × Nat) (a1 : Nat) (a2 : Int32) (h : PH) : Option (Nat × PH) :=
  ob (pArr h a1 2) fun w1 =>
  if a2 = (nI w1.1) then
    none
  else
    ck (!decide (a2 < 0) && decide ((Int32.toNatClampNeg a2) ≤ 100000)) <|
    bnd (pNew cap h (.inl (2, (Int32.toNatClampNeg a2), .inl (fun _ => 0))) (Int32.toNatClampNeg a2)) fun p1 h1 =>
    ob (pArr h1 a1 2) fun w2 =>
    bnd (fJ12_min (nI w2.1) a2 h1) fun r1 h2 =>
    bnv (pCpI h2 a1 p1 2 r1) fun h3 =>
    some (p1, h3)
set_option maxHeartbeats 1000000 in
theorem kJ13_copyOf_3 {l : Launch} {D : PD} {A : Nat → Prop} {cap : Nat × Nat} {a1 : Nat} {a2 : Int32} {h h' : PH} {r : Nat} (hf : fJ13_copyOf_3 cap a1 a2 h = some (r, h')) : CMet l D A cap yJ13_copyOf_3 cJ13_copyOf_3 3 (Option.some (Jvm.ClassFile.FieldType.array Jvm.ClassFile.FieldType.byte)) 2 [.ref a1, .int a2] h h' (some (.ref r)) := by
  unfold fJ13_copyOf_3 at hf
  refine p_head (own := RJ13) (ini := false) (pn_J13 rfl) rfl (fun q => by cases q) (Nat.le_of_ble_eq_true rfl) (fun m Z cx sx H0 ls X hM hl => ?_)
  have G := X.g
  have hl : lv_has ls 3 [(0, .ref a1), (1, .int a2)] := hl
  refine g_iload_n G dJ13_copyOf_3_0 rfl (lv_at hl 1 rfl) ?_
  refine g_aload_n G dJ13_copyOf_3_1 rfl (lv_at hl 0 rfl) ?_
  obtain ⟨w1, g1, hf⟩ := ob_open hf
  refine p_alen X hM (kd := 2) (by decide) g1 rfl dJ13_copyOf_3_2 ?_
  refine g_icmp_ne (tgt := 14) G dJ13_copyOf_3_3 rfl (fun c1 => ?_) (fun c1 => ?_)
  · have hf := it_neg c1 hf
    refine g_iload_n G dJ13_copyOf_3_14 rfl (lv_at hl 1 rfl) ?_
    obtain ⟨b1, hf⟩ := ck_open hf
    obtain ⟨p1, h1, g2, hf⟩ := bnd_open hf
    refine p_newB X hM b1 g2 dJ13_copyOf_3_15 (fun H locs hM => ?_)
    refine g_astore_n (i := 2) (lv' := [(2, .ref p1), (0, .ref a1), (1, .int a2)]) G dJ13_copyOf_3_17 rfl hl (Nat.le_of_ble_eq_true rfl) rfl (fun ls hl => ?_)
    refine g_aload_n G dJ13_copyOf_3_18 rfl (lv_at hl 1 rfl) ?_
    refine g_iconst (v := 0) G dJ13_copyOf_3_19 rfl ?_
    refine g_aload_n G dJ13_copyOf_3_20 rfl (lv_at hl 0 rfl) ?_
    refine g_iconst (v := 0) G dJ13_copyOf_3_21 rfl ?_
    refine g_aload_n G dJ13_copyOf_3_22 rfl (lv_at hl 1 rfl) ?_
    obtain ⟨w2, g3, hf⟩ := ob_open hf
    refine p_alen X hM (kd := 2) (by decide) g3 rfl dJ13_copyOf_3_23 ?_
    refine g_iload_n G dJ13_copyOf_3_24 rfl (lv_at hl 2 rfl) ?_
    obtain ⟨r1, h2, g4, hf⟩ := bnd_open hf
    refine p_callS_r (As := [.int (nI w2.1), .int a2]) (rest := [.int 0, .ref p1, .int 0, .ref a1]) X hM hl pcy_J12_min q876 q877 (kJ12_min g4) rfl (Nat.le_of_ble_eq_true rfl) (Nat.le_of_ble_eq_true rfl) rfl dJ13_copyOf_3_25 (fun H locs hM => ?_)
    obtain ⟨h3, g5, hf⟩ := bnv_open hf
    refine p_copyI X hM hl (kd := 2) (by decide) rfl q879 q881 q880 q167 g5 (Nat.le_of_ble_eq_true rfl) (Nat.le_of_ble_eq_true rfl) dJ13_copyOf_3_28 (fun H locs hM => ?_)
    refine g_aload_n G dJ13_copyOf_3_31 rfl (lv_at hl 0 rfl) ?_
    exact p_aret X (Or.inr ⟨_, rfl⟩) hM hf dJ13_copyOf_3_32
  · have hf := it_pos c1 hf
    exact absurd hf (by intro q; cases q)
theorem pcy_J14_ensureCapacityInternal : pcY yJ14_ensureCapacityInternal cJ14_ensureCapacityInternal 3 none 1 := ⟨q1133, q175, ⟨by decide +kernel, by decide +kernel, by decide +kernel⟩, Nat.le_of_ble_eq_true rfl⟩
noncomputable def fJ14_ensureCapacityInternal (D : PD) (cap : Nat × Nat) (a0 : Nat) (a1 : Int32) (h : PH) : Option (PH) :=
  vA (pF h a0 23 0) fun p1 =>
  ob (pArr h p1 2) fun w1 =>
  vI (pF h a0 23 1) fun v1 =>
  if (a1 - ((nI w1.1) >>> (v1 &&& 31))) ≤ 0 then
    some h
  else
    vA (pF h a0 23 0) fun p2 =>
    ckc (pCls h a0) 23 <|
    bnd (fJ14_newCapacity D cap a0 a1 h) fun r1 h1 =>
    vI (pF h1 a0 23 1) fun v2 =>
    bnd (fJ13_copyOf_3 cap p2 (r1 <<< (v2 &&& 31)) h1) fun p3 h2 =>
    bnv (pPut h2 a0 23 0 (.ref p3)) fun h3 =>
    some h3
set_option maxHeartbeats 1000000 in
theorem kJ14_ensureCapacityInternal {l : Launch} {D : PD} {A : Nat → Prop} {cap : Nat × Nat} {a0 : Nat} {a1 : Int32} {h h' : PH} (hf : fJ14_ensureCapacityInternal D cap a0 a1 h = some h') : CMet l D A cap yJ14_ensureCapacityInternal cJ14_ensureCapacityInternal 3 none 4 [.ref a0, .int a1] h h' (none) := by
  unfold fJ14_ensureCapacityInternal at hf
  refine p_head (own := RJ14) (ini := false) (pn_J14 rfl) rfl (fun q => by cases q) (Nat.le_of_ble_eq_true rfl) (fun m Z cx sx H0 ls X hM hl => ?_)
  have G := X.g
  have hl : lv_has ls 3 [(0, .ref a0), (1, .int a1)] := hl
  refine g_aload_n G dJ14_ensureCapacityInternal_0 rfl (lv_at hl 0 rfl) ?_
  obtain ⟨p1, g1, hf⟩ := vA_open hf
  refine p_get (k := 0) X hM pc_23 (by decide) q1026 rfl g1 dJ14_ensureCapacityInternal_1 ?_
  obtain ⟨w1, g2, hf⟩ := ob_open hf
  refine p_alen X hM (kd := 2) (by decide) g2 rfl dJ14_ensureCapacityInternal_4 ?_
  refine g_aload_n G dJ14_ensureCapacityInternal_5 rfl (lv_at hl 0 rfl) ?_
  obtain ⟨v1, g3, hf⟩ := vI_open hf
  refine p_get (k := 1) X hM pc_23 (by decide) q1027 rfl g3 dJ14_ensureCapacityInternal_6 ?_
  refine g_ishr G dJ14_ensureCapacityInternal_9 ?_
  refine g_istore_n (i := 2) (lv' := [(2, .int ((nI w1.1) >>> (v1 &&& 31))), (0, .ref a0), (1, .int a1)]) G dJ14_ensureCapacityInternal_10 rfl hl (Nat.le_of_ble_eq_true rfl) rfl (fun ls hl => ?_)
  refine g_iload_n G dJ14_ensureCapacityInternal_11 rfl (lv_at hl 2 rfl) ?_
  refine g_iload_n G dJ14_ensureCapacityInternal_12 rfl (lv_at hl 0 rfl) ?_
  refine g_isub G dJ14_ensureCapacityInternal_13 ?_
  refine g_if_le (tgt := 38) G dJ14_ensureCapacityInternal_14 rfl (fun c1 => ?_) (fun c1 => ?_)
  · have hf := it_pos c1 hf
    exact p_vret X hM hf dJ14_ensureCapacityInternal_38
  · have hf := it_neg c1 hf
    refine g_aload_n G dJ14_ensureCapacityInternal_17 rfl (lv_at hl 1 rfl) ?_
    refine g_aload_n G dJ14_ensureCapacityInternal_18 rfl (lv_at hl 1 rfl) ?_
    obtain ⟨p2, g4, hf⟩ := vA_open hf
    refine p_get (k := 0) X hM pc_23 (by decide) q1026 rfl g4 dJ14_ensureCapacityInternal_19 ?_
    refine g_aload_n G dJ14_ensureCapacityInternal_22 rfl (lv_at hl 1 rfl) ?_
    refine g_iload_n G dJ14_ensureCapacityInternal_23 rfl (lv_at hl 2 rfl) ?_
    obtain ⟨b1, hf⟩ := ckc_open hf
    obtain ⟨r1, h1, g5, hf⟩ := bnd_open hf
    refine p_callP_r (ci := 23) (As := [.int a1]) (rest := [.ref p2, .ref a0]) X hM hl rfl b1 pcy_J14_newCapacity q1134 q2464 (fun U hK => hK.2.2.2.2.2.1) q1136 (kJ14_newCapacity g5) rfl (Nat.le_of_ble_eq_true rfl) (Nat.le_of_ble_eq_true rfl) rfl dJ14_ensureCapacityInternal_24 (fun H locs hM => ?_)
    refine g_aload_n G dJ14_ensureCapacityInternal_27 rfl (lv_at hl 1 rfl) ?_
    obtain ⟨v2, g6, hf⟩ := vI_open hf
    refine p_get (k := 1) X hM pc_23 (by decide) q1027 rfl g6 dJ14_ensureCapacityInternal_28 ?_
    refine g_ishl G dJ14_ensureCapacityInternal_31 ?_
    obtain ⟨p3, h2, g7, hf⟩ := bnd_open hf
    refine p_callS_r (As := [.ref p2, .int (r1 <<< (v2 &&& 31))]) (rest := [.ref a0]) X hM hl pcy_J13_copyOf_3 q1140 q1141 (kJ13_copyOf_3 g7) rfl (Nat.le_of_ble_eq_true rfl) (Nat.le_of_ble_eq_true rfl) rfl dJ14_ensureCapacityInternal_32 (fun H locs hM => ?_)
    obtain ⟨h3, g8, hf⟩ := bnv_open hf
    refine p_put (k := 0) X hM pc_23 (by decide) q1026 rfl rfl rfl rfl g8 dJ14_ensureCapacityInternal_35 (fun H locs hM => ?_)
    exact p_vret X hM hf dJ14_ensureCapacityInternal_38
theorem pcy_J9_canEncode : pcY yJ9_canEncode cJ9_canEncode 1 (Option.some Jvm.ClassFile.FieldType.boolean) 1 := ⟨q1157, q161, ⟨by decide +kernel, by decide +kernel, by decide +kernel⟩, Nat.le_of_ble_eq_true rfl⟩
noncomputable def fJ9_canEncode (a1 : Int32) (h : PH) : Option (Bool × PH) :=
  if (255 : Int32) < a1 then
    some (false, h)
  else
    some (true, h)
set_option maxHeartbeats 1000000 in
theorem kJ9_canEncode {l : Launch} {D : PD} {A : Nat → Prop} {cap : Nat × Nat} {a1 : Int32} {h h' : PH} {r : Bool} (hf : fJ9_canEncode a1 h = some (r, h')) : CMet l D A cap yJ9_canEncode cJ9_canEncode 1 (Option.some Jvm.ClassFile.FieldType.boolean) 1 [.int a1] h h' (some (.int (bI r))) := by
  unfold fJ9_canEncode at hf
  refine p_head (own := RJ9) (ini := false) (pn_J9 rfl) rfl (fun q => by cases q) (Nat.le_of_ble_eq_true rfl) (fun m Z cx sx H0 ls X hM hl => ?_)
  have G := X.g
  have hl : lv_has ls 1 [(0, .int a1)] := hl
  refine g_iload_n G dJ9_canEncode_0 rfl (lv_at hl 0 rfl) ?_
  refine g_sipush (v := 255) G dJ9_canEncode_1 rfl ?_
  refine g_icmp_gt (tgt := 11) G dJ9_canEncode_4 rfl (fun c1 => ?_) (fun c1 => ?_)
  · have hf := it_pos c1 hf
    refine g_iconst (v := 0) G dJ9_canEncode_11 rfl ?_
    exact p_zret X hM hf dJ9_canEncode_12
  · have hf := it_neg c1 hf
    refine g_iconst (v := 1) G dJ9_canEncode_7 rfl ?_
    refine g_goto (tgt := 12) G dJ9_canEncode_8 rfl ?_
    exact p_zret X hM hf dJ9_canEncode_12
theorem pcy_J14_append : pcY yJ14_append cJ14_append 2 (Option.some (Jvm.ClassFile.FieldType.object "java/lang/AbstractStringBuilder")) 1 := ⟨q1129, q175, ⟨by decide +kernel, by decide +kernel, by decide +kernel⟩, Nat.le_of_ble_eq_true rfl⟩
noncomputable def fJ14_append (D : PD) (cap : Nat × Nat) (a0 : Nat) (a1 : Int32) (h : PH) : Option (Nat × PH) :=
  vI (pF h a0 23 3) fun v1 =>
  ckc (pCls h a0) 23 <|
  bnv (fJ14_ensureCapacityInternal D cap a0 (v1 + 1) h) fun h1 =>
  ckc (pCls h1 a0) 23 <|
  bnd (fJ14_isLatin1 D a0 h1) fun r1 h2 =>
  jn (fun (h3 : PH) =>
    ckc (pCls h3 a0) 23 <|
    bnd (fJ14_isLatin1 D a0 h3) fun r2 h4 =>
    if (bI r2) = 0 then
      none
    else
      none) fun j45 =>
  if (bI r1) = 0 then
    j45 h2
  else
    bnd (fJ9_canEncode a1 h2) fun r3 h5 =>
    if (bI r3) = 0 then
      j45 h5
    else
      vA (pF h5 a0 23 0) fun p1 =>
      vI (pF h5 a0 23 3) fun v2 =>
      bnv (pPut h5 a0 23 3 (.int (v2 + 1))) fun h6 =>
      bnv (pSt h6 p1 2 v2 (vp_nar .byte ((Int32.toInt8 a1).toInt32))) fun h7 =>
      some (a0, h7)
set_option maxHeartbeats 1000000 in
theorem kJ14_append {l : Launch} {D : PD} {A : Nat → Prop} {cap : Nat × Nat} {a0 : Nat} {a1 : Int32} {h h' : PH} {r : Nat} (hf : fJ14_append D cap a0 a1 h = some (r, h')) : CMet l D A cap yJ14_append cJ14_append 2 (Option.some (Jvm.ClassFile.FieldType.object "java/lang/AbstractStringBuilder")) 5 [.ref a0, .int a1] h h' (some (.ref r)) := by
  unfold fJ14_append at hf
  refine p_head (own := RJ14) (ini := false) (pn_J14 rfl) rfl (fun q => by cases q) (Nat.le_of_ble_eq_true rfl) (fun m Z cx sx H0 ls X hM hl => ?_)
  have G := X.g
  have hl : lv_has ls 2 [(0, .ref a0), (1, .int a1)] := hl
  refine g_aload_n G dJ14_append_0 rfl (lv_at hl 0 rfl) ?_
  refine g_aload_n G dJ14_append_1 rfl (lv_at hl 0 rfl) ?_
  obtain ⟨v1, g1, hf⟩ := vI_open hf
  refine p_get (k := 3) X hM pc_23 (by decide) q1028 rfl g1 dJ14_append_2 ?_
  refine g_iconst (v := 1) G dJ14_append_5 rfl ?_
  refine g_iadd G dJ14_append_6 ?_
  obtain ⟨b1, hf⟩ := ckc_open hf
  obtain ⟨h1, g2, hf⟩ := bnv_open hf
  refine p_callP_v (ci := 23) (As := [.int (v1 + 1)]) (rest := []) X hM hl rfl b1 pcy_J14_ensureCapacityInternal q1130 q2463 (fun U hK => hK.2.2.2.2.1) q1132 (kJ14_ensureCapacityInternal g2) rfl (Nat.le_of_ble_eq_true rfl) (Nat.le_of_ble_eq_true rfl) rfl dJ14_append_7 (fun H locs hM => ?_)
  refine g_aload_n G dJ14_append_10 rfl (lv_at hl 0 rfl) ?_
  obtain ⟨b2, hf⟩ := ckc_open hf
  obtain ⟨r1, h2, g3, hf⟩ := bnd_open hf
  refine p_callO_r (ci := 23) (As := []) (rest := []) X hM hl rfl b2 pcy_J14_isLatin1 q1150 q1152 q1153 q1151 (kJ14_isLatin1 g3) rfl (Nat.le_of_ble_eq_true rfl) (Nat.le_of_ble_eq_true rfl) rfl dJ14_append_11 (fun H locs hM => ?_)
  obtain ⟨j45, ej45, hf⟩ := jn_open hf
  have J45 : ∀ (h3 : PH) (H : Heap) (locs : List Loc), j45 h3 = some (r, h') → PI D A cap H0 h3 H locs → ∀ ls : Array Slot, lv_has ls 2 [(0, .ref a0), (1, .int a1)] → Z H locs (cx H) (sx H) (F0 m 45 ls []) := by
    intro h3 H locs hf hM ls hl
    rw [ej45] at hf
    refine g_aload_n G dJ14_append_45 rfl (lv_at hl 0 rfl) ?_
    obtain ⟨b3, hf⟩ := ckc_open hf
    obtain ⟨r2, h4, g4, hf⟩ := bnd_open hf
    refine p_callO_r (ci := 23) (As := []) (rest := []) X hM hl rfl b3 pcy_J14_isLatin1 q1150 q1152 q1153 q1151 (kJ14_isLatin1 g4) rfl (Nat.le_of_ble_eq_true rfl) (Nat.le_of_ble_eq_true rfl) rfl dJ14_append_46 (fun H locs hM => ?_)
    refine g_if_eq (tgt := 56) G dJ14_append_49 rfl (fun c1 => ?_) (fun c1 => ?_)
    · have hf := it_pos c1 hf
      exact absurd hf (by intro q; cases q)
    · have hf := it_neg c1 hf
      exact absurd hf (by intro q; cases q)
  refine g_if_eq (tgt := 45) G dJ14_append_14 rfl (fun c2 => ?_) (fun c2 => ?_)
  · have hf := it_pos c2 hf
    exact J45 _ _ _ hf hM ls (lv_sub hl [0, 1] rfl)
  · have hf := it_neg c2 hf
    refine g_iload_n G dJ14_append_17 rfl (lv_at hl 1 rfl) ?_
    obtain ⟨r3, h5, g5, hf⟩ := bnd_open hf
    refine p_callS_r (As := [.int a1]) (rest := []) X hM hl pcy_J9_canEncode q1155 q1156 (kJ9_canEncode g5) rfl (Nat.le_of_ble_eq_true rfl) (Nat.le_of_ble_eq_true rfl) rfl dJ14_append_18 (fun H locs hM => ?_)
    refine g_if_eq (tgt := 45) G dJ14_append_21 rfl (fun c3 => ?_) (fun c3 => ?_)
    · have hf := it_pos c3 hf
      exact J45 _ _ _ hf hM ls (lv_sub hl [0, 1] rfl)
    · have hf := it_neg c3 hf
      refine g_aload_n G dJ14_append_24 rfl (lv_at hl 0 rfl) ?_
      obtain ⟨p1, g6, hf⟩ := vA_open hf
      refine p_get (k := 0) X hM pc_23 (by decide) q1026 rfl g6 dJ14_append_25 ?_
      refine g_aload_n G dJ14_append_28 rfl (lv_at hl 0 rfl) ?_
      refine g_dup G dJ14_append_29 rfl ?_
      obtain ⟨v2, g7, hf⟩ := vI_open hf
      refine p_get (k := 3) X hM pc_23 (by decide) q1028 rfl g7 dJ14_append_30 ?_
      refine g_dup_x1 G dJ14_append_33 rfl rfl ?_
      refine g_iconst (v := 1) G dJ14_append_34 rfl ?_
      refine g_iadd G dJ14_append_35 ?_
      obtain ⟨h6, g8, hf⟩ := bnv_open hf
      refine p_put (k := 3) X hM pc_23 (by decide) q1028 rfl rfl rfl rfl g8 dJ14_append_36 (fun H locs hM => ?_)
      refine g_iload_n G dJ14_append_39 rfl (lv_at hl 1 rfl) ?_
      refine g_i2b (v := (Int32.toInt8 a1).toInt32) G dJ14_append_40 rfl ?_
      obtain ⟨h7, g9, hf⟩ := bnv_open hf
      refine p_bast X hM g9 dJ14_append_41 (fun H locs hM => ?_)
      refine g_goto (tgt := 75) G dJ14_append_42 rfl ?_
      refine g_aload_n G dJ14_append_75 rfl (lv_at hl 0 rfl) ?_
      exact p_aret X (Or.inl ⟨_, rfl⟩) hM hf dJ14_append_76
theorem pcy_J15_append : pcY yJ15_append cJ15_append 2 (Option.some (Jvm.ClassFile.FieldType.object "java/lang/StringBuilder")) 1 := ⟨q1126, q176, ⟨by decide +kernel, by decide +kernel, by decide +kernel⟩, Nat.le_of_ble_eq_true rfl⟩
noncomputable def fJ15_append (D : PD) (cap : Nat × Nat) (a0 : Nat) (a1 : Int32) (h : PH) : Option (Nat × PH) :=
  ckc (pCls h a0) 23 <|
  bnd (fJ14_append D cap a0 a1 h) fun p1 h1 =>
  some (a0, h1)
set_option maxHeartbeats 1000000 in
theorem kJ15_append {l : Launch} {D : PD} {A : Nat → Prop} {cap : Nat × Nat} {a0 : Nat} {a1 : Int32} {h h' : PH} {r : Nat} (hf : fJ15_append D cap a0 a1 h = some (r, h')) : CMet l D A cap yJ15_append cJ15_append 2 (Option.some (Jvm.ClassFile.FieldType.object "java/lang/StringBuilder")) 6 [.ref a0, .int a1] h h' (some (.ref r)) := by
  unfold fJ15_append at hf
  refine p_head (own := RJ15) (ini := false) (pn_J15 rfl) rfl (fun q => by cases q) (Nat.le_of_ble_eq_true rfl) (fun m Z cx sx H0 ls X hM hl => ?_)
  have G := X.g
  have hl : lv_has ls 2 [(0, .ref a0), (1, .int a1)] := hl
  refine g_aload_n G dJ15_append_0 rfl (lv_at hl 0 rfl) ?_
  refine g_iload_n G dJ15_append_1 rfl (lv_at hl 1 rfl) ?_
  obtain ⟨b1, hf⟩ := ckc_open hf
  obtain ⟨p1, h1, g1, hf⟩ := bnd_open hf
  refine p_callSU_r (ci := 23) (As := [.int a1]) (rest := []) X hM hl rfl b1 pcy_J14_append (by decide) q1127 q2462 q1037 q1128 (kJ14_append g1) rfl (Nat.le_of_ble_eq_true rfl) (Nat.le_of_ble_eq_true rfl) rfl dJ15_append_2 (fun H locs hM => ?_)
  refine g_pop G dJ15_append_5 rfl ?_
  refine g_aload_n G dJ15_append_6 rfl (lv_at hl 0 rfl) ?_
  exact p_aret X (Or.inl ⟨_, rfl⟩) hM hf dJ15_append_7
