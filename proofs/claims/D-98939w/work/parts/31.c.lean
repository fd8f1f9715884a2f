/-! PART 31.c (printed by dc.py, mkc.py) -/
set_option maxRecDepth 100000
theorem pcy_J6_checkIndex : pcY yJ6_checkIndex cJ6_checkIndex 2 none 2 := ⟨q1176, q158, ⟨by decide +kernel, by decide +kernel, by decide +kernel⟩, Nat.le_of_ble_eq_true rfl⟩
noncomputable def fJ6_checkIndex (D : PD) (a1 : Int32) (a2 : Int32) (h : PH) : Option (PH) :=
  vQ (some (dS D 7)) fun q1 =>
  bnd (fJ8_checkIndex a1 a2 q1 h) fun r1 h1 =>
  some h1
set_option maxHeartbeats 1000000 in
theorem kJ6_checkIndex {l : Launch} {D : PD} {A : Nat → Prop} {cap : Nat × Nat} {a1 : Int32} {a2 : Int32} {h h' : PH} (hf : fJ6_checkIndex D a1 a2 h = some h') : CMet l D A cap yJ6_checkIndex cJ6_checkIndex 2 none 2 [.int a1, .int a2] h h' (none) := by
  unfold fJ6_checkIndex at hf
  refine p_head (own := RJ6) (ini := false) (pn_J6 rfl) rfl (fun q => by cases q) (Nat.le_of_ble_eq_true rfl) (fun m Z cx sx H0 ls X hM hl => ?_)
  have G := X.g
  have hl : lv_has ls 2 [(0, .int a1), (1, .int a2)] := hl
  refine g_iload_n G dJ6_checkIndex_0 rfl (lv_at hl 0 rfl) ?_
  refine g_iload_n G dJ6_checkIndex_1 rfl (lv_at hl 1 rfl) ?_
  obtain ⟨q1, g1, hf⟩ := vQ_open hf
  refine p_gets X hM (i := 7) rfl q628 dJ6_checkIndex_2 ?_
  rw [Option.some.inj g1]
  obtain ⟨r1, h1, g2, hf⟩ := bnd_open hf
  refine p_callS_r (As := [.int a1, .int a2, va_rf q1]) (rest := []) X hM hl pcy_J8_checkIndex q1177 q770 (kJ8_checkIndex g2) rfl (Nat.le_of_ble_eq_true rfl) (Nat.le_of_ble_eq_true rfl) rfl dJ6_checkIndex_5 (fun H locs hM => ?_)
  refine g_pop G dJ6_checkIndex_8 rfl ?_
  exact p_vret X hM hf dJ6_checkIndex_9
theorem pcy_J14_charAt : pcY yJ14_charAt cJ14_charAt 5 (Option.some Jvm.ClassFile.FieldType.char) 1 := ⟨q1394, q175, ⟨by decide +kernel, by decide +kernel, by decide +kernel⟩, Nat.le_of_ble_eq_true rfl⟩
noncomputable def fJ14_charAt (D : PD) (a0 : Nat) (a1 : Int32) (h : PH) : Option (Int32 × PH) :=
  vI (pF h a0 23 1) fun v1 =>
  vA (pF h a0 23 0) fun p1 =>
  vI (pF h a0 23 3) fun v2 =>
  ob (pArr h p1 2) fun w1 =>
  bnd (fJ12_min v2 ((nI w1.1) >>> (v1 &&& 31)) h) fun r1 h1 =>
  bnv (fJ6_checkIndex D a1 r1 h1) fun h2 =>
  if v1 = 0 then
    ob (pLd h2 p1 2 a1) fun v3 =>
    ck (decide (vp_nar .char ((Int32.toUInt32 (v3 &&& 255) % 65536).toInt32) = ((Int32.toUInt32 (v3 &&& 255) % 65536).toInt32))) <|
    some (((Int32.toUInt32 (v3 &&& 255) % 65536).toInt32), h2)
  else
    none
set_option maxHeartbeats 1000000 in
theorem kJ14_charAt {l : Launch} {D : PD} {A : Nat → Prop} {cap : Nat × Nat} {a0 : Nat} {a1 : Int32} {h h' : PH} {r : Int32} (hf : fJ14_charAt D a0 a1 h = some (r, h')) : CMet l D A cap yJ14_charAt cJ14_charAt 5 (Option.some Jvm.ClassFile.FieldType.char) 3 [.ref a0, .int a1] h h' (some (.int r)) := by
  unfold fJ14_charAt at hf
  refine p_head (own := RJ14) (ini := false) (pn_J14 rfl) rfl (fun q => by cases q) (Nat.le_of_ble_eq_true rfl) (fun m Z cx sx H0 ls X hM hl => ?_)
  have G := X.g
  have hl : lv_has ls 5 [(0, .ref a0), (1, .int a1)] := hl
  refine g_aload_n G dJ14_charAt_0 rfl (lv_at hl 0 rfl) ?_
  obtain ⟨v1, g1, hf⟩ := vI_open hf
  refine p_get (k := 1) X hM pc_23 (by decide) q1027 rfl g1 dJ14_charAt_1 ?_
  refine g_istore_n (i := 2) (lv' := [(2, .int v1), (0, .ref a0), (1, .int a1)]) G dJ14_charAt_4 rfl hl (Nat.le_of_ble_eq_true rfl) rfl (fun ls hl => ?_)
  refine g_aload_n G dJ14_charAt_5 rfl (lv_at hl 1 rfl) ?_
  obtain ⟨p1, g2, hf⟩ := vA_open hf
  refine p_get (k := 0) X hM pc_23 (by decide) q1026 rfl g2 dJ14_charAt_6 ?_
  refine g_astore_n (i := 3) (lv' := [(3, .ref p1), (2, .int v1), (0, .ref a0), (1, .int a1)]) G dJ14_charAt_9 rfl hl (Nat.le_of_ble_eq_true rfl) rfl (fun ls hl => ?_)
  refine g_aload_n G dJ14_charAt_10 rfl (lv_at hl 2 rfl) ?_
  obtain ⟨v2, g3, hf⟩ := vI_open hf
  refine p_get (k := 3) X hM pc_23 (by decide) q1028 rfl g3 dJ14_charAt_11 ?_
  refine g_aload_n G dJ14_charAt_14 rfl (lv_at hl 0 rfl) ?_
  obtain ⟨w1, g4, hf⟩ := ob_open hf
  refine p_alen X hM (kd := 2) (by decide) g4 rfl dJ14_charAt_15 ?_
  refine g_iload_n G dJ14_charAt_16 rfl (lv_at hl 1 rfl) ?_
  refine g_ishr G dJ14_charAt_17 ?_
  obtain ⟨r1, h1, g5, hf⟩ := bnd_open hf
  refine p_callS_r (As := [.int v2, .int ((nI w1.1) >>> (v1 &&& 31))]) (rest := []) X hM hl pcy_J12_min q1395 q877 (kJ12_min g5) rfl (Nat.le_of_ble_eq_true rfl) (Nat.le_of_ble_eq_true rfl) rfl dJ14_charAt_18 (fun H locs hM => ?_)
  refine g_istore (lv' := [(4, .int r1), (3, .ref p1), (2, .int v1), (0, .ref a0), (1, .int a1)]) G dJ14_charAt_21 hl (Nat.le_of_ble_eq_true rfl) rfl (fun ls hl => ?_)
  refine g_iload_n G dJ14_charAt_23 rfl (lv_at hl 4 rfl) ?_
  refine g_iload G dJ14_charAt_24 (lv_at hl 0 rfl) ?_
  obtain ⟨h2, g6, hf⟩ := bnv_open hf
  refine p_callS_v (As := [.int a1, .int r1]) (rest := []) X hM hl pcy_J6_checkIndex q1396 q1175 (kJ6_checkIndex g6) rfl (Nat.le_of_ble_eq_true rfl) (Nat.le_of_ble_eq_true rfl) rfl dJ14_charAt_26 (fun H locs hM => ?_)
  refine g_iload_n G dJ14_charAt_29 rfl (lv_at hl 2 rfl) ?_
  refine g_if_ne (tgt := 42) G dJ14_charAt_30 rfl (fun c1 => ?_) (fun c1 => ?_)
  · have hf := it_neg c1 hf
    exact absurd hf (by intro q; cases q)
  · have hf := it_pos c1 hf
    refine g_aload_n G dJ14_charAt_33 rfl (lv_at hl 1 rfl) ?_
    refine g_iload_n G dJ14_charAt_34 rfl (lv_at hl 4 rfl) ?_
    obtain ⟨v3, g7, hf⟩ := ob_open hf
    refine p_bald X hM g7 dJ14_charAt_35 ?_
    refine g_sipush (v := 255) G dJ14_charAt_36 rfl ?_
    refine g_iand G dJ14_charAt_39 ?_
    refine g_i2c (v := (Int32.toUInt32 (v3 &&& 255) % 65536).toInt32) G dJ14_charAt_40 rfl ?_
    obtain ⟨b1, hf⟩ := ck_open hf
    exact p_tret X hM hf (nar_b b1) dJ14_charAt_41
theorem pcy_J15_charAt : pcY yJ15_charAt cJ15_charAt 2 (Option.some Jvm.ClassFile.FieldType.char) 1 := ⟨q1391, q176, ⟨by decide +kernel, by decide +kernel, by decide +kernel⟩, Nat.le_of_ble_eq_true rfl⟩
noncomputable def fJ15_charAt (D : PD) (a0 : Nat) (a1 : Int32) (h : PH) : Option (Int32 × PH) :=
  ckc (pCls h a0) 23 <|
  bnd (fJ14_charAt D a0 a1 h) fun r1 h1 =>
  ck (decide (vp_nar .char r1 = r1)) <|
  some (r1, h1)
set_option maxHeartbeats 1000000 in
theorem kJ15_charAt {l : Launch} {D : PD} {A : Nat → Prop} {cap : Nat × Nat} {a0 : Nat} {a1 : Int32} {h h' : PH} {r : Int32} (hf : fJ15_charAt D a0 a1 h = some (r, h')) : CMet l D A cap yJ15_charAt cJ15_charAt 2 (Option.some Jvm.ClassFile.FieldType.char) 4 [.ref a0, .int a1] h h' (some (.int r)) := by
  unfold fJ15_charAt at hf
  refine p_head (own := RJ15) (ini := false) (pn_J15 rfl) rfl (fun q => by cases q) (Nat.le_of_ble_eq_true rfl) (fun m Z cx sx H0 ls X hM hl => ?_)
  have G := X.g
  have hl : lv_has ls 2 [(0, .ref a0), (1, .int a1)] := hl
  refine g_aload_n G dJ15_charAt_0 rfl (lv_at hl 0 rfl) ?_
  refine g_iload_n G dJ15_charAt_1 rfl (lv_at hl 1 rfl) ?_
  obtain ⟨b1, hf⟩ := ckc_open hf
  obtain ⟨r1, h1, g1, hf⟩ := bnd_open hf
  refine p_callSU_r (ci := 23) (As := [.int a1]) (rest := []) X hM hl rfl b1 pcy_J14_charAt (by decide) q1392 q2466 q1037 q1393 (kJ14_charAt g1) rfl (Nat.le_of_ble_eq_true rfl) (Nat.le_of_ble_eq_true rfl) rfl dJ15_charAt_2 (fun H locs hM => ?_)
  obtain ⟨b2, hf⟩ := ck_open hf
  exact p_tret X hM hf (nar_b b2) dJ15_charAt_5
theorem pcy_X0_looked : pcY yX0_looked cX0_looked 4 (Option.some Jvm.ClassFile.FieldType.long) 2 := ⟨q1384, q145, ⟨by decide +kernel, by decide +kernel, by decide +kernel⟩, Nat.le_of_ble_eq_true rfl⟩
noncomputable def fX0_looked (a0 : Nat) (a1 : Int32) (a2 : Int64) (h : PH) : Option (Int64 × PH) :=
  jn (fun (h1 : PH) =>
    some (0, h1)) fun j41 =>
  if a1 = 0 then
    if a2 < 0 then
      j41 h
    else
      ckc (pCls h a0) 0 <|
      bnd (fX0_people a0 h) fun r1 h2 =>
      if (Int32.toInt64 r1) ≤ a2 then
        j41 h2
      else
        vA (pF h2 a0 0 9) fun p1 =>
        vI (pF h2 a0 0 18) fun v1 =>
        ckc (pCls h2 p1) 5 <|
        bnd (fX5_stands p1 (Int64.toInt32 a2) v1 h2) fun r2 h3 =>
        if r2 = (1 : Int32) then
          some (1, h3)
        else
          j41 h3
  else
    j41 h
set_option maxHeartbeats 1000000 in
theorem kX0_looked {l : Launch} {D : PD} {A : Nat → Prop} {cap : Nat × Nat} {a0 : Nat} {a1 : Int32} {a2 : Int64} {h h' : PH} {r : Int64} (hf : fX0_looked a0 a1 a2 h = some (r, h')) : CMet l D A cap yX0_looked cX0_looked 4 (Option.some Jvm.ClassFile.FieldType.long) 3 [.ref a0, .int a1, .long a2] h h' (some (.long r)) := by
  unfold fX0_looked at hf
  refine p_head (own := RX0) (ini := false) (pn_X0 rfl) rfl (fun q => by cases q) (Nat.le_of_ble_eq_true rfl) (fun m Z cx sx H0 ls X hM hl => ?_)
  have G := X.g
  have hl : lv_has ls 4 [(0, .ref a0), (1, .int a1), (2, .long a2)] := hl
  refine g_iload_n G dX0_looked_0 rfl (lv_at hl 1 rfl) ?_
  obtain ⟨j41, ej41, hf⟩ := jn_open hf
  have J41 : ∀ (h1 : PH) (H : Heap) (locs : List Loc), j41 h1 = some (r, h') → PI D A cap H0 h1 H locs → ∀ ls : Array Slot, lv_has ls 4 [] → Z H locs (cx H) (sx H) (F0 m 41 ls []) := by
    intro h1 H locs hf hM ls hl
    rw [ej41] at hf
    refine g_lconst (v := 0) G dX0_looked_41 rfl ?_
    exact p_lret X hM hf dX0_looked_42
  refine g_if_ne (tgt := 41) G dX0_looked_1 rfl (fun c1 => ?_) (fun c1 => ?_)
  · have hf := it_neg c1 hf
    exact J41 _ _ _ hf hM ls (lv_sub hl [] rfl)
  · have hf := it_pos c1 hf
    refine g_lload_n G dX0_looked_4 rfl (lv_at hl 2 rfl) ?_
    refine g_lconst (v := 0) G dX0_looked_5 rfl ?_
    refine g_lc_lt (tgt := 41) G dX0_looked_6 dX0_looked_7 rfl (fun c2 => ?_) (fun c2 => ?_)
    · have hf := it_pos c2 hf
      exact J41 _ _ _ hf hM ls (lv_sub hl [] rfl)
    · have hf := it_neg c2 hf
      refine g_lload_n G dX0_looked_10 rfl (lv_at hl 2 rfl) ?_
      refine g_aload_n G dX0_looked_11 rfl (lv_at hl 0 rfl) ?_
      obtain ⟨b1, hf⟩ := ckc_open hf
      obtain ⟨r1, h2, g1, hf⟩ := bnd_open hf
      refine p_callV_r (ci := 0) (As := []) (rest := [.long a2]) X hM hl rfl b1 pcy_X0_people q1227 q1208 qs34 (kX0_people g1) rfl (Nat.le_of_ble_eq_true rfl) (Nat.le_of_ble_eq_true rfl) rfl dX0_looked_12 (fun H locs hM => ?_)
      refine g_i2l (v := Int32.toInt64 r1) G dX0_looked_15 rfl ?_
      refine g_lc_ge (tgt := 41) G dX0_looked_16 dX0_looked_17 rfl (fun c3 => ?_) (fun c3 => ?_)
      · have hf := it_pos c3 hf
        exact J41 _ _ _ hf hM ls (lv_sub hl [] rfl)
      · have hf := it_neg c3 hf
        refine g_aload_n G dX0_looked_20 rfl (lv_at hl 0 rfl) ?_
        obtain ⟨p1, g2, hf⟩ := vA_open hf
        refine p_get (k := 9) X hM pc_0 (by decide) q457 rfl g2 dX0_looked_21 ?_
        refine g_lload_n G dX0_looked_24 rfl (lv_at hl 2 rfl) ?_
        refine g_l2i (v := Int64.toInt32 a2) G dX0_looked_25 rfl ?_
        refine g_aload_n G dX0_looked_26 rfl (lv_at hl 0 rfl) ?_
        obtain ⟨v1, g3, hf⟩ := vI_open hf
        refine p_get (k := 18) X hM pc_0 (by decide) q466 rfl g3 dX0_looked_27 ?_
        obtain ⟨b2, hf⟩ := ckc_open hf
        obtain ⟨r2, h3, g4, hf⟩ := bnd_open hf
        refine p_callV_r (ci := 5) (As := [.int (Int64.toInt32 a2), .int v1]) (rest := []) X hM hl rfl b2 pcy_X5_stands q1281 q1282 q1283 (kX5_stands g4) rfl (Nat.le_of_ble_eq_true rfl) (Nat.le_of_ble_eq_true rfl) rfl dX0_looked_30 (fun H locs hM => ?_)
        refine g_iconst (v := 1) G dX0_looked_33 rfl ?_
        refine g_icmp_ne (tgt := 41) G dX0_looked_34 rfl (fun c4 => ?_) (fun c4 => ?_)
        · have hf := it_neg c4 hf
          exact J41 _ _ _ hf hM ls (lv_sub hl [] rfl)
        · have hf := it_pos c4 hf
          refine g_lconst (v := 1) G dX0_looked_37 rfl ?_
          refine g_goto (tgt := 42) G dX0_looked_38 rfl ?_
          exact p_lret X hM hf dX0_looked_42
theorem pcy_X14_two : pcY yX14_two cX14_two 5 (Option.some Jvm.ClassFile.FieldType.long) 3 := ⟨q1400, q174, ⟨by decide +kernel, by decide +kernel, by decide +kernel⟩, Nat.le_of_ble_eq_true rfl⟩
noncomputable def fX14_two (a1 : Int32) (a2 : Int64) (a3 : Int64) (h : PH) : Option (Int64 × PH) :=
  if a1 = 42 then
    some ((a2 * a3), h)
  else
    if a1 = 43 then
      some ((a2 + a3), h)
    else
      if a1 = 44 then
        if a3 = 0 then
          some (0, h)
        else
          bnd (fJ12_floorDiv a2 a3 h) fun r1 h1 =>
          some (r1, h1)
      else
        if a1 = 45 then
          some ((a2 - a3), h)
        else
          if a3 = 0 then
            some (0, h)
          else
            bnd (fJ12_floorDiv a2 a3 h) fun r2 h2 =>
            some (r2, h2)
set_option maxHeartbeats 1000000 in
theorem kX14_two {l : Launch} {D : PD} {A : Nat → Prop} {cap : Nat × Nat} {a1 : Int32} {a2 : Int64} {a3 : Int64} {h h' : PH} {r : Int64} (hf : fX14_two a1 a2 a3 h = some (r, h')) : CMet l D A cap yX14_two cX14_two 5 (Option.some Jvm.ClassFile.FieldType.long) 2 [.int a1, .long a2, .long a3] h h' (some (.long r)) := by
  unfold fX14_two at hf
  refine p_head (own := RX14) (ini := false) (pn_X14 rfl) rfl (fun q => by cases q) (Nat.le_of_ble_eq_true rfl) (fun m Z cx sx H0 ls X hM hl => ?_)
  have G := X.g
  have hl : lv_has ls 5 [(0, .int a1), (1, .long a2), (3, .long a3)] := hl
  refine g_iload_n G dX14_two_0 rfl (lv_at hl 0 rfl) ?_
  by_cases c1 : a1 = 42
  · have hf := it_pos c1 hf
    refine g_tableIn (off := 39) (tgt := 40) G dX14_two_1 (by rw [c1]; decide) (by rw [c1]; decide) (by rw [c1]; rfl) rfl ?_
    refine g_lload_n G dX14_two_40 rfl (lv_at hl 1 rfl) ?_
    refine g_lload_n G dX14_two_41 rfl (lv_at hl 2 rfl) ?_
    refine g_lmul G dX14_two_42 ?_
    exact p_lret X hM hf dX14_two_43
  have hf := it_neg c1 hf
  by_cases c2 : a1 = 43
  · have hf := it_pos c2 hf
    refine g_tableIn (off := 31) (tgt := 32) G dX14_two_1 (by rw [c2]; decide) (by rw [c2]; decide) (by rw [c2]; rfl) rfl ?_
    refine g_lload_n G dX14_two_32 rfl (lv_at hl 1 rfl) ?_
    refine g_lload_n G dX14_two_33 rfl (lv_at hl 2 rfl) ?_
    refine g_ladd G dX14_two_34 ?_
    exact p_lret X hM hf dX14_two_35
  have hf := it_neg c2 hf
  by_cases c3 : a1 = 44
  · have hf := it_pos c3 hf
    refine g_tableIn (off := 43) (tgt := 44) G dX14_two_1 (by rw [c3]; decide) (by rw [c3]; decide) (by rw [c3]; rfl) rfl ?_
    refine g_lload_n G dX14_two_44 rfl (lv_at hl 2 rfl) ?_
    refine g_lconst (v := 0) G dX14_two_45 rfl ?_
    refine g_lc_ne (tgt := 54) G dX14_two_46 dX14_two_47 rfl (fun c4 => ?_) (fun c4 => ?_)
    · have hf := it_neg c4 hf
      refine g_lload_n G dX14_two_54 rfl (lv_at hl 1 rfl) ?_
      refine g_lload_n G dX14_two_55 rfl (lv_at hl 2 rfl) ?_
      obtain ⟨r1, h1, g1, hf⟩ := bnd_open hf
      refine p_callS_r (As := [.long a2, .long a3]) (rest := []) X hM hl pcy_J12_floorDiv q1401 q1402 (kJ12_floorDiv g1) rfl (Nat.le_of_ble_eq_true rfl) (Nat.le_of_ble_eq_true rfl) rfl dX14_two_56 (fun H locs hM => ?_)
      exact p_lret X hM hf dX14_two_59
    · have hf := it_pos c4 hf
      refine g_lconst (v := 0) G dX14_two_50 rfl ?_
      refine g_goto (tgt := 59) G dX14_two_51 rfl ?_
      exact p_lret X hM hf dX14_two_59
  have hf := it_neg c3 hf
  by_cases c5 : a1 = 45
  · have hf := it_pos c5 hf
    refine g_tableIn (off := 35) (tgt := 36) G dX14_two_1 (by rw [c5]; decide) (by rw [c5]; decide) (by rw [c5]; rfl) rfl ?_
    refine g_lload_n G dX14_two_36 rfl (lv_at hl 1 rfl) ?_
    refine g_lload_n G dX14_two_37 rfl (lv_at hl 2 rfl) ?_
    refine g_lsub G dX14_two_38 ?_
    exact p_lret X hM hf dX14_two_39
  have hf := it_neg c5 hf
  refine g_tableOut (tgt := 44) G dX14_two_1 (by have ec1 := lv_neT c1 (a := 42) rfl; have ec2 := lv_neT c2 (a := 43) rfl; have ec3 := lv_neT c3 (a := 44) rfl; have ec5 := lv_neT c5 (a := 45) rfl; omega) rfl ?_
  refine g_lload_n G dX14_two_44 rfl (lv_at hl 2 rfl) ?_
  refine g_lconst (v := 0) G dX14_two_45 rfl ?_
  refine g_lc_ne (tgt := 54) G dX14_two_46 dX14_two_47 rfl (fun c6 => ?_) (fun c6 => ?_)
  · have hf := it_neg c6 hf
    refine g_lload_n G dX14_two_54 rfl (lv_at hl 1 rfl) ?_
    refine g_lload_n G dX14_two_55 rfl (lv_at hl 2 rfl) ?_
    obtain ⟨r2, h2, g2, hf⟩ := bnd_open hf
    refine p_callS_r (As := [.long a2, .long a3]) (rest := []) X hM hl pcy_J12_floorDiv q1401 q1402 (kJ12_floorDiv g2) rfl (Nat.le_of_ble_eq_true rfl) (Nat.le_of_ble_eq_true rfl) rfl dX14_two_56 (fun H locs hM => ?_)
    exact p_lret X hM hf dX14_two_59
  · have hf := it_pos c6 hf
    refine g_lconst (v := 0) G dX14_two_50 rfl ?_
    refine g_goto (tgt := 59) G dX14_two_51 rfl ?_
    exact p_lret X hM hf dX14_two_59
noncomputable def fX16_at (rA : Nat → Nat → PH → Option (Int64 × PH)) (a0 : Nat) (a1 : Nat) (h : PH) : Option (Int64 × PH) :=
  vJ (pF h a0 16 0) fun v1 =>
  some (v1, h)
set_option maxHeartbeats 1000000 in
theorem kX16_at {l : Launch} {D : PD} {A : Nat → Prop} {cap : Nat × Nat} {d : Nat} (hd : 1 ≤ d) {rA : Nat → Nat → PH → Option (Int64 × PH)} {dA : Nat} (okA : OkVA l D A cap dA rA) (hdA : dA < d) {a0 : Nat} {a1 : Nat} {h h' : PH} {r : Int64} (hf : fX16_at rA a0 a1 h = some (r, h')) : CMet l D A cap yX16_at cX16_at 2 (Option.some Jvm.ClassFile.FieldType.long) d [.ref a0, .ref a1] h h' (some (.long r)) := by
  unfold fX16_at at hf
  refine p_head (own := RX16) (ini := false) (pn_X16 rfl) rfl (fun q => by cases q) (Nat.le_of_ble_eq_true rfl) (fun m Z cx sx H0 ls X hM hl => ?_)
  have G := X.g
  have hl : lv_has ls 2 [(0, .ref a0), (1, .ref a1)] := hl
  refine g_aload_n G dX16_at_0 rfl (lv_at hl 0 rfl) ?_
  obtain ⟨v1, g1, hf⟩ := vJ_open hf
  refine p_get (k := 0) X hM pc_16 (by decide) q1079 rfl g1 dX16_at_1 ?_
  exact p_lret X hM hf dX16_at_4
noncomputable def fX17_at (rA : Nat → Nat → PH → Option (Int64 × PH)) (a0 : Nat) (a1 : Nat) (h : PH) : Option (Int64 × PH) :=
  vA (pF h a1 4 0) fun p1 =>
  vI (pF h a0 17 0) fun v1 =>
  ob (pLdJ h p1 1 v1) fun v2 =>
  bnd (fX0_held v2 h) fun r1 h1 =>
  some (r1, h1)
set_option maxHeartbeats 1000000 in
theorem kX17_at {l : Launch} {D : PD} {A : Nat → Prop} {cap : Nat × Nat} {d : Nat} (hd : 3 ≤ d) {rA : Nat → Nat → PH → Option (Int64 × PH)} {dA : Nat} (okA : OkVA l D A cap dA rA) (hdA : dA < d) {a0 : Nat} {a1 : Nat} {h h' : PH} {r : Int64} (hf : fX17_at rA a0 a1 h = some (r, h')) : CMet l D A cap yX17_at cX17_at 2 (Option.some Jvm.ClassFile.FieldType.long) d [.ref a0, .ref a1] h h' (some (.long r)) := by
  unfold fX17_at at hf
  refine p_head (own := RX17) (ini := false) (pn_X17 rfl) rfl (fun q => by cases q) (Nat.le_of_ble_eq_true rfl) (fun m Z cx sx H0 ls X hM hl => ?_)
  have G := X.g
  have hl : lv_has ls 2 [(0, .ref a0), (1, .ref a1)] := hl
  refine g_aload_n G dX17_at_0 rfl (lv_at hl 1 rfl) ?_
  obtain ⟨p1, g1, hf⟩ := vA_open hf
  refine p_getN (k := 0) X hM pc_4 (by decide) q381 rfl g1 dX17_at_1 ?_
  refine g_aload_n G dX17_at_4 rfl (lv_at hl 0 rfl) ?_
  obtain ⟨v1, g2, hf⟩ := vI_open hf
  refine p_get (k := 0) X hM pc_17 (by decide) q1091 rfl g2 dX17_at_5 ?_
  obtain ⟨v2, g3, hf⟩ := ob_open hf
  refine p_lald X hM g3 dX17_at_8 ?_
  obtain ⟨r1, h1, g4, hf⟩ := bnd_open hf
  refine p_callSN_r (As := [.long v2]) (rest := []) X hM hl pcy_X0_held q1355 q1356 (kX0_held g4) rfl (Nat.lt_of_lt_of_le (by decide) hd) (Nat.le_of_ble_eq_true rfl) rfl dX17_at_9 (fun H locs hM => ?_)
  exact p_lret X hM hf dX17_at_12
noncomputable def fX15_at (rA : Nat → Nat → PH → Option (Int64 × PH)) (a0 : Nat) (a1 : Nat) (h : PH) : Option (Int64 × PH) :=
  vA (pF h a0 15 1) fun p1 =>
  bnd (rA p1 a1 h) fun r1 h1 =>
  vA (pF h1 a0 15 2) fun p2 =>
  bnd (rA p2 a1 h1) fun r2 h2 =>
  vZ (pF h2 a0 15 0) fun t1 =>
  jn (fun (x1 : Bool) (h3 : PH) =>
    if (bI t1) = (bI x1) then
      some (r1, h3)
    else
      some (r2, h3)) fun j35 =>
  if r1 ≤ r2 then
    j35 false h2
  else
    j35 true h2
set_option maxHeartbeats 1000000 in
theorem kX15_at {l : Launch} {D : PD} {A : Nat → Prop} {cap : Nat × Nat} {d : Nat} (hd : 1 ≤ d) {rA : Nat → Nat → PH → Option (Int64 × PH)} {dA : Nat} (okA : OkVA l D A cap dA rA) (hdA : dA < d) {a0 : Nat} {a1 : Nat} {h h' : PH} {r : Int64} (hf : fX15_at rA a0 a1 h = some (r, h')) : CMet l D A cap yX15_at cX15_at 6 (Option.some Jvm.ClassFile.FieldType.long) d [.ref a0, .ref a1] h h' (some (.long r)) := by
  unfold fX15_at at hf
  refine p_head (own := RX15) (ini := false) (pn_X15 rfl) rfl (fun q => by cases q) (Nat.le_of_ble_eq_true rfl) (fun m Z cx sx H0 ls X hM hl => ?_)
  have G := X.g
  have hl : lv_has ls 6 [(0, .ref a0), (1, .ref a1)] := hl
  refine g_aload_n G dX15_at_0 rfl (lv_at hl 0 rfl) ?_
  obtain ⟨p1, g1, hf⟩ := vA_open hf
  refine p_get (k := 1) X hM pc_15 (by decide) q1064 rfl g1 dX15_at_1 ?_
  refine g_aload_n G dX15_at_4 rfl (lv_at hl 1 rfl) ?_
  obtain ⟨r1, h1, g2, hf⟩ := bnd_open hf
  refine p_callVA (rest := []) X hM hl q1380 (okA _ _ _ _ _ g2) hdA (Nat.le_of_ble_eq_true rfl) dX15_at_5 (fun H locs hM => ?_)
  refine g_lstore_n (i := 2) (lv' := [(2, .long r1), (0, .ref a0), (1, .ref a1)]) G dX15_at_8 rfl hl (Nat.le_of_ble_eq_true rfl) rfl (fun ls hl => ?_)
  refine g_aload_n G dX15_at_9 rfl (lv_at hl 1 rfl) ?_
  obtain ⟨p2, g3, hf⟩ := vA_open hf
  refine p_get (k := 2) X hM pc_15 (by decide) q1065 rfl g3 dX15_at_10 ?_
  refine g_aload_n G dX15_at_13 rfl (lv_at hl 2 rfl) ?_
  obtain ⟨r2, h2, g4, hf⟩ := bnd_open hf
  refine p_callVA (rest := []) X hM hl q1380 (okA _ _ _ _ _ g4) hdA (Nat.le_of_ble_eq_true rfl) dX15_at_14 (fun H locs hM => ?_)
  refine g_lstore (lv' := [(4, .long r2), (2, .long r1), (0, .ref a0), (1, .ref a1)]) G dX15_at_17 hl (Nat.le_of_ble_eq_true rfl) rfl (fun ls hl => ?_)
  refine g_aload_n G dX15_at_19 rfl (lv_at hl 2 rfl) ?_
  obtain ⟨t1, g5, hf⟩ := vZ_open hf
  refine p_get (k := 0) X hM pc_15 (by decide) q1063 rfl g5 dX15_at_20 ?_
  refine g_lload_n G dX15_at_23 rfl (lv_at hl 1 rfl) ?_
  refine g_lload G dX15_at_24 (lv_at hl 0 rfl) ?_
  obtain ⟨j35, ej35, hf⟩ := jn_open hf
  have J35 : ∀ (x1 : Bool) (h3 : PH) (H : Heap) (locs : List Loc), j35 x1 h3 = some (r, h') → PI D A cap H0 h3 H locs → ∀ ls : Array Slot, lv_has ls 6 [(2, .long r1), (4, .long r2)] → Z H locs (cx H) (sx H) (F0 m 35 ls [.int (bI x1), .int (bI t1)]) := by
    intro x1 h3 H locs hf hM ls hl
    rw [ej35] at hf
    refine g_icmp_ne (tgt := 42) G dX15_at_35 rfl (fun c1 => ?_) (fun c1 => ?_)
    · have hf := it_neg c1 hf
      refine g_lload G dX15_at_42 (lv_at hl 1 rfl) ?_
      exact p_lret X hM hf dX15_at_44
    · have hf := it_pos c1 hf
      refine g_lload_n G dX15_at_38 rfl (lv_at hl 0 rfl) ?_
      refine g_goto (tgt := 44) G dX15_at_39 rfl ?_
      exact p_lret X hM hf dX15_at_44
  refine g_lc_le (tgt := 34) G dX15_at_26 dX15_at_27 rfl (fun c2 => ?_) (fun c2 => ?_)
  · have hf := it_pos c2 hf
    refine g_iconst (v := 0) G dX15_at_34 rfl ?_
    exact J35 _ _ _ _ hf hM ls (lv_sub hl [1, 0] rfl)
  · have hf := it_neg c2 hf
    refine g_iconst (v := 1) G dX15_at_30 rfl ?_
    refine g_goto (tgt := 35) G dX15_at_31 rfl ?_
    exact J35 _ _ _ _ hf hM ls (lv_sub hl [1, 0] rfl)
noncomputable def fX18_at (rA : Nat → Nat → PH → Option (Int64 × PH)) (a0 : Nat) (a1 : Nat) (h : PH) : Option (Int64 × PH) :=
  vA (pF h a0 18 2) fun p1 =>
  vI (pF h a0 18 0) fun v1 =>
  vA (pF h a0 18 1) fun p2 =>
  bnd (rA p2 a1 h) fun r1 h1 =>
  ckc (pCls h1 p1) 0 <|
  bnd (fX0_looked p1 v1 r1 h1) fun r2 h2 =>
  bnd (fX0_held r2 h2) fun r3 h3 =>
  some (r3, h3)
set_option maxHeartbeats 1000000 in
theorem kX18_at {l : Launch} {D : PD} {A : Nat → Prop} {cap : Nat × Nat} {d : Nat} (hd : 4 ≤ d) {rA : Nat → Nat → PH → Option (Int64 × PH)} {dA : Nat} (okA : OkVA l D A cap dA rA) (hdA : dA < d) {a0 : Nat} {a1 : Nat} {h h' : PH} {r : Int64} (hf : fX18_at rA a0 a1 h = some (r, h')) : CMet l D A cap yX18_at cX18_at 2 (Option.some Jvm.ClassFile.FieldType.long) d [.ref a0, .ref a1] h h' (some (.long r)) := by
  unfold fX18_at at hf
  refine p_head (own := RX18) (ini := false) (pn_X18 rfl) rfl (fun q => by cases q) (Nat.le_of_ble_eq_true rfl) (fun m Z cx sx H0 ls X hM hl => ?_)
  have G := X.g
  have hl : lv_has ls 2 [(0, .ref a0), (1, .ref a1)] := hl
  refine g_aload_n G dX18_at_0 rfl (lv_at hl 0 rfl) ?_
  obtain ⟨p1, g1, hf⟩ := vA_open hf
  refine p_get (k := 2) X hM pc_18 (by decide) q1109 rfl g1 dX18_at_1 ?_
  refine g_aload_n G dX18_at_4 rfl (lv_at hl 0 rfl) ?_
  obtain ⟨v1, g2, hf⟩ := vI_open hf
  refine p_get (k := 0) X hM pc_18 (by decide) q1107 rfl g2 dX18_at_5 ?_
  refine g_aload_n G dX18_at_8 rfl (lv_at hl 0 rfl) ?_
  obtain ⟨p2, g3, hf⟩ := vA_open hf
  refine p_get (k := 1) X hM pc_18 (by decide) q1108 rfl g3 dX18_at_9 ?_
  refine g_aload_n G dX18_at_12 rfl (lv_at hl 1 rfl) ?_
  obtain ⟨r1, h1, g4, hf⟩ := bnd_open hf
  refine p_callVA (rest := [.int v1, .ref p1]) X hM hl q1377 (okA _ _ _ _ _ g4) hdA (Nat.le_of_ble_eq_true rfl) dX18_at_13 (fun H locs hM => ?_)
  obtain ⟨b1, hf⟩ := ckc_open hf
  obtain ⟨r2, h2, g5, hf⟩ := bnd_open hf
  refine p_callVN_r (ci := 0) (As := [.int v1, .long r1]) (rest := []) X hM hl rfl b1 pcy_X0_looked q1381 q1383 qs42 (kX0_looked g5) rfl (Nat.lt_of_lt_of_le (by decide) hd) (Nat.le_of_ble_eq_true rfl) rfl dX18_at_16 (fun H locs hM => ?_)
  obtain ⟨r3, h3, g6, hf⟩ := bnd_open hf
  refine p_callSN_r (As := [.long r2]) (rest := []) X hM hl pcy_X0_held q1385 q1356 (kX0_held g6) rfl (Nat.lt_of_lt_of_le (by decide) hd) (Nat.le_of_ble_eq_true rfl) rfl dX18_at_19 (fun H locs hM => ?_)
  exact p_lret X hM hf dX18_at_22
noncomputable def fX14_at_L21 (D : PD) (a0 : Nat) (a1 : Nat) (rA : Nat → Nat → PH → Option (Int64 × PH)) (s21 : Int64 → Int32 → PH → Option (Int64 × PH)) (x1 : Int64) (x2 : Int32) (h3 : PH) : Option (Int64 × PH) :=
  vA (pF h3 a0 14 0) fun p2 =>
  ckc (pCls h3 p2) 21 <|
  bnd (fJ2_size p2 h3) fun r2 h4 =>
  if r2 ≤ x2 then
    some (x1, h4)
  else
    vA (pF h4 a0 14 1) fun p3 =>
    ckc (pCls h4 p3) 23 <|
    bnd (fJ15_charAt D p3 x2 h4) fun r3 h5 =>
    vA (pF h5 a0 14 0) fun p4 =>
    ckc (pCls h5 p4) 21 <|
    bnd (fJ2_get p4 x2 h5) fun q2 h6 =>
    qS q2 fun n2 =>
    ck (isVal (pCls h6 n2)) <|
    bnd (rA n2 a1 h6) fun r4 h7 =>
    bnd (fX14_two r3 x1 r4 h7) fun r5 h8 =>
    bnd (fX0_held r5 h8) fun r6 h9 =>
    s21 r6 (x2 + 1) h9
noncomputable def fX14_at (D : PD) (rA : Nat → Nat → PH → Option (Int64 × PH)) (a0 : Nat) (a1 : Nat) (h : PH) : Option (Int64 × PH) :=
  vA (pF h a0 14 0) fun p1 =>
  ckc (pCls h p1) 21 <|
  bnd (fJ2_get p1 0 h) fun q1 h1 =>
  qS q1 fun n1 =>
  ck (isVal (pCls h1 n1)) <|
  bnd (rA n1 a1 h1) fun r1 h2 =>
  fx (fX14_at_L21 D a0 a1 rA) (fun _ _ _ => none) FU r1 1 h2
set_option maxHeartbeats 1000000 in
theorem kX14_at {l : Launch} {D : PD} {A : Nat → Prop} {cap : Nat × Nat} {d : Nat} (hd : 5 ≤ d) {rA : Nat → Nat → PH → Option (Int64 × PH)} {dA : Nat} (okA : OkVA l D A cap dA rA) (hdA : dA < d) {a0 : Nat} {a1 : Nat} {h h' : PH} {r : Int64} (hf : fX14_at D rA a0 a1 h = some (r, h')) : CMet l D A cap yX14_at cX14_at 5 (Option.some Jvm.ClassFile.FieldType.long) d [.ref a0, .ref a1] h h' (some (.long r)) := by
  unfold fX14_at at hf
  refine p_head (own := RX14) (ini := false) (pn_X14 rfl) rfl (fun q => by cases q) (Nat.le_of_ble_eq_true rfl) (fun m Z cx sx H0 ls X hM hl => ?_)
  have G := X.g
  have hl : lv_has ls 5 [(0, .ref a0), (1, .ref a1)] := hl
  refine g_aload_n G dX14_at_0 rfl (lv_at hl 0 rfl) ?_
  obtain ⟨p1, g1, hf⟩ := vA_open hf
  refine p_get (k := 0) X hM pc_14 (by decide) q1038 rfl g1 dX14_at_1 ?_
  refine g_iconst (v := 0) G dX14_at_4 rfl ?_
  obtain ⟨b1, hf⟩ := ckc_open hf
  obtain ⟨q1, h1, g2, hf⟩ := bnd_open hf
  refine p_callF_r (As := [.int 0]) (rest := []) X hM hl b1 pcy_J2_get (fun U hK => hK.1.2.2.1.2.1) ⟨by decide +kernel, by decide +kernel, by decide +kernel⟩ q1370 q763 q761 (kJ2_get g2) rfl (Nat.lt_of_lt_of_le (by decide) hd) (Nat.le_of_ble_eq_true rfl) rfl dX14_at_5 (fun H locs hM => ?_)
  obtain ⟨n1, e1, hfq⟩ := qS_open hf
  clear hf; subst e1; have hf := hfq; clear hfq
  obtain ⟨b2, hf⟩ := ck_open hf
  refine p_castV X hM q1371 (isVal_open b2) dX14_at_10 ?_
  refine g_aload_n G dX14_at_13 rfl (lv_at hl 1 rfl) ?_
  obtain ⟨r1, h2, g3, hf⟩ := bnd_open hf
  refine p_callVA (rest := []) X hM hl q1372 (okA _ _ _ _ _ g3) hdA (Nat.le_of_ble_eq_true rfl) dX14_at_14 (fun H locs hM => ?_)
  refine g_lstore_n (i := 2) (lv' := [(2, .long r1), (0, .ref a0), (1, .ref a1)]) G dX14_at_17 rfl hl (Nat.le_of_ble_eq_true rfl) rfl (fun ls hl => ?_)
  refine g_iconst (v := 1) G dX14_at_18 rfl ?_
  refine g_istore (lv' := [(4, .int 1), (2, .long r1), (0, .ref a0), (1, .ref a1)]) G dX14_at_19 hl (Nat.le_of_ble_eq_true rfl) rfl (fun ls hl => ?_)
  have L21 : ∀ (n : Nat) (x1 : Int64) (x2 : Int32) (h3 : PH) (H : Heap) (locs : List Loc), fx (fX14_at_L21 D a0 a1 rA) (fun _ _ _ => none) n x1 x2 h3 = some (r, h') → PI D A cap H0 h3 H locs → ∀ ls : Array Slot, lv_has ls 5 [(0, .ref a0), (1, .ref a1), (2, .long x1), (4, .int x2)] → Z H locs (cx H) (sx H) (F0 m 21 ls []) := by
    intro n
    induction n with
    | zero => intro x1 x2 h3 H locs hf; exact absurd hf (by intro q; cases q)
    | succ n ih21 =>
      intro x1 x2 h3 H locs hf hM ls hl
      rw [fx_s] at hf
      generalize fx (fX14_at_L21 D a0 a1 rA) (fun _ _ _ => none) n = s21 at hf ih21
      unfold fX14_at_L21 at hf
      refine g_iload G dX14_at_21 (lv_at hl 3 rfl) ?_
      refine g_aload_n G dX14_at_23 rfl (lv_at hl 0 rfl) ?_
      obtain ⟨p2, g4, hf⟩ := vA_open hf
      refine p_get (k := 0) X hM pc_14 (by decide) q1038 rfl g4 dX14_at_24 ?_
      obtain ⟨b3, hf⟩ := ckc_open hf
      obtain ⟨r2, h4, g5, hf⟩ := bnd_open hf
      refine p_callF_r (As := []) (rest := [.int x2]) X hM hl b3 pcy_J2_size (fun U hK => hK.1.2.2.1.1) ⟨by decide +kernel, by decide +kernel, by decide +kernel⟩ q1387 q727 q725 (kJ2_size g5) rfl (Nat.lt_of_lt_of_le (by decide) hd) (Nat.le_of_ble_eq_true rfl) rfl dX14_at_27 (fun H locs hM => ?_)
      refine g_icmp_ge (tgt := 76) G dX14_at_32 rfl (fun c1 => ?_) (fun c1 => ?_)
      · have hf := it_pos c1 hf
        refine g_lload_n G dX14_at_76 rfl (lv_at hl 2 rfl) ?_
        exact p_lret X hM hf dX14_at_77
      · have hf := it_neg c1 hf
        refine g_aload_n G dX14_at_35 rfl (lv_at hl 0 rfl) ?_
        obtain ⟨p3, g6, hf⟩ := vA_open hf
        refine p_get (k := 1) X hM pc_14 (by decide) q1039 rfl g6 dX14_at_36 ?_
        refine g_iload G dX14_at_39 (lv_at hl 3 rfl) ?_
        obtain ⟨b4, hf⟩ := ckc_open hf
        obtain ⟨r3, h5, g7, hf⟩ := bnd_open hf
        refine p_callV_r (ci := 23) (As := [.int x2]) (rest := []) X hM hl rfl b4 pcy_J15_charAt q1388 q1389 q1390 (kJ15_charAt g7) rfl (Nat.lt_of_lt_of_le (by decide) hd) (Nat.le_of_ble_eq_true rfl) rfl dX14_at_41 (fun H locs hM => ?_)
        refine g_lload_n G dX14_at_44 rfl (lv_at hl 2 rfl) ?_
        refine g_aload_n G dX14_at_45 rfl (lv_at hl 0 rfl) ?_
        obtain ⟨p4, g8, hf⟩ := vA_open hf
        refine p_get (k := 0) X hM pc_14 (by decide) q1038 rfl g8 dX14_at_46 ?_
        refine g_iload G dX14_at_49 (lv_at hl 3 rfl) ?_
        obtain ⟨b5, hf⟩ := ckc_open hf
        obtain ⟨q2, h6, g9, hf⟩ := bnd_open hf
        refine p_callF_r (As := [.int x2]) (rest := [.long x1, .int r3]) X hM hl b5 pcy_J2_get (fun U hK => hK.1.2.2.1.2.1) ⟨by decide +kernel, by decide +kernel, by decide +kernel⟩ q1370 q763 q761 (kJ2_get g9) rfl (Nat.lt_of_lt_of_le (by decide) hd) (Nat.le_of_ble_eq_true rfl) rfl dX14_at_51 (fun H locs hM => ?_)
        obtain ⟨n2, e2, hfq⟩ := qS_open hf
        clear hf; subst e2; have hf := hfq; clear hfq
        obtain ⟨b6, hf⟩ := ck_open hf
        refine p_castV X hM q1371 (isVal_open b6) dX14_at_56 ?_
        refine g_aload_n G dX14_at_59 rfl (lv_at hl 1 rfl) ?_
        obtain ⟨r4, h7, g10, hf⟩ := bnd_open hf
        refine p_callVA (rest := [.long x1, .int r3]) X hM hl q1372 (okA _ _ _ _ _ g10) hdA (Nat.le_of_ble_eq_true rfl) dX14_at_60 (fun H locs hM => ?_)
        obtain ⟨r5, h8, g11, hf⟩ := bnd_open hf
        refine p_callS_r (As := [.int r3, .long x1, .long r4]) (rest := []) X hM hl pcy_X14_two q1398 q1399 (kX14_two g11) rfl (Nat.lt_of_lt_of_le (by decide) hd) (Nat.le_of_ble_eq_true rfl) rfl dX14_at_63 (fun H locs hM => ?_)
        obtain ⟨r6, h9, g12, hf⟩ := bnd_open hf
        refine p_callSN_r (As := [.long r5]) (rest := []) X hM hl pcy_X0_held q1404 q1356 (kX0_held g12) rfl (Nat.lt_of_lt_of_le (by decide) hd) (Nat.le_of_ble_eq_true rfl) rfl dX14_at_66 (fun H locs hM => ?_)
        refine g_lstore_n (i := 2) (lv' := [(2, .long r6), (0, .ref a0), (1, .ref a1), (4, .int x2)]) G dX14_at_69 rfl hl (Nat.le_of_ble_eq_true rfl) rfl (fun ls hl => ?_)
        refine g_iinc (v := x2 + 1) (lv' := [(4, .int (x2 + 1)), (2, .long r6), (0, .ref a0), (1, .ref a1)]) G dX14_at_70 hl (k := 3) rfl rfl (Nat.le_of_ble_eq_true rfl) rfl (fun ls hl => ?_)
        refine g_goto (tgt := 21) G dX14_at_73 rfl ?_
        exact ih21 _ _ _ _ _ hf hM ls (lv_sub hl [2, 3, 1, 0] rfl)
  exact L21 FU _ _ _ _ _ hf hM ls (lv_sub hl [2, 3, 1, 0] rfl)
noncomputable def fX12_holds (rT : Nat → Nat → PH → Option (Bool × PH)) (a0 : Nat) (a1 : Nat) (h : PH) : Option (Bool × PH) :=
  some (true, h)
set_option maxHeartbeats 1000000 in
theorem kX12_holds {l : Launch} {D : PD} {A : Nat → Prop} {cap : Nat × Nat} {d : Nat} (hd : 1 ≤ d) {rT : Nat → Nat → PH → Option (Bool × PH)} {dT : Nat} (okT : OkVT l D A cap dT rT) (hdT : dT < d) {a0 : Nat} {a1 : Nat} {h h' : PH} {r : Bool} (hf : fX12_holds rT a0 a1 h = some (r, h')) : CMet l D A cap yX12_holds cX12_holds 2 (Option.some Jvm.ClassFile.FieldType.boolean) d [.ref a0, .ref a1] h h' (some (.int (bI r))) := by
  unfold fX12_holds at hf
  refine p_head (own := RX12) (ini := false) (pn_X12 rfl) rfl (fun q => by cases q) (Nat.le_of_ble_eq_true rfl) (fun m Z cx sx H0 ls X hM hl => ?_)
  have G := X.g
  have hl : lv_has ls 2 [(0, .ref a0), (1, .ref a1)] := hl
  refine g_iconst (v := 1) G dX12_holds_0 rfl ?_
  exact p_zret X hM hf dX12_holds_1
noncomputable def fX11_holds (rT : Nat → Nat → PH → Option (Bool × PH)) (a0 : Nat) (a1 : Nat) (h : PH) : Option (Bool × PH) :=
  vA (pF h a0 11 0) fun p1 =>
  bnd (rT p1 a1 h) fun r1 h1 =>
  if (bI r1) = 0 then
    some (true, h1)
  else
    some (false, h1)
set_option maxHeartbeats 1000000 in
theorem kX11_holds {l : Launch} {D : PD} {A : Nat → Prop} {cap : Nat × Nat} {d : Nat} (hd : 1 ≤ d) {rT : Nat → Nat → PH → Option (Bool × PH)} {dT : Nat} (okT : OkVT l D A cap dT rT) (hdT : dT < d) {a0 : Nat} {a1 : Nat} {h h' : PH} {r : Bool} (hf : fX11_holds rT a0 a1 h = some (r, h')) : CMet l D A cap yX11_holds cX11_holds 2 (Option.some Jvm.ClassFile.FieldType.boolean) d [.ref a0, .ref a1] h h' (some (.int (bI r))) := by
  unfold fX11_holds at hf
  refine p_head (own := RX11) (ini := false) (pn_X11 rfl) rfl (fun q => by cases q) (Nat.le_of_ble_eq_true rfl) (fun m Z cx sx H0 ls X hM hl => ?_)
  have G := X.g
  have hl : lv_has ls 2 [(0, .ref a0), (1, .ref a1)] := hl
  refine g_aload_n G dX11_holds_0 rfl (lv_at hl 0 rfl) ?_
  obtain ⟨p1, g1, hf⟩ := vA_open hf
  refine p_get (k := 0) X hM pc_11 (by decide) q988 rfl g1 dX11_holds_1 ?_
  refine g_aload_n G dX11_holds_4 rfl (lv_at hl 1 rfl) ?_
  obtain ⟨r1, h1, g2, hf⟩ := bnd_open hf
  refine p_callVT (rest := []) X hM hl q1346 (okT _ _ _ _ _ g2) hdT (Nat.le_of_ble_eq_true rfl) dX11_holds_5 (fun H locs hM => ?_)
  refine g_if_ne (tgt := 15) G dX11_holds_8 rfl (fun c1 => ?_) (fun c1 => ?_)
  · have hf := it_neg c1 hf
    refine g_iconst (v := 0) G dX11_holds_15 rfl ?_
    exact p_zret X hM hf dX11_holds_16
  · have hf := it_pos c1 hf
    refine g_iconst (v := 1) G dX11_holds_11 rfl ?_
    refine g_goto (tgt := 16) G dX11_holds_12 rfl ?_
    exact p_zret X hM hf dX11_holds_16
noncomputable def fX10_holds_L2 (a0 : Nat) (a1 : Nat) (rT : Nat → Nat → PH → Option (Bool × PH)) (k58 : PH → Option (Bool × PH)) (k39 : PH → Option (Bool × PH)) (s2 : Int32 → PH → Option (Bool × PH)) (x1 : Int32) (h3 : PH) : Option (Bool × PH) :=
  vA (pF h3 a0 10 0) fun p1 =>
  ckc (pCls h3 p1) 21 <|
  bnd (fJ2_size p1 h3) fun r1 h4 =>
  if r1 ≤ x1 then
    k58 h4
  else
    vA (pF h4 a0 10 0) fun p2 =>
    ckc (pCls h4 p2) 21 <|
    bnd (fJ2_get p2 x1 h4) fun q1 h5 =>
    qS q1 fun n1 =>
    ck (isTst (pCls h5 n1)) <|
    bnd (rT n1 a1 h5) fun r2 h6 =>
    vZ (pF h6 a0 10 1) fun t3 =>
    if (bI r2) = (bI t3) then
      s2 (x1 + 1) h6
    else
      k39 h6
noncomputable def fX10_holds (rT : Nat → Nat → PH → Option (Bool × PH)) (a0 : Nat) (a1 : Nat) (h : PH) : Option (Bool × PH) :=
  jn (fun (h1 : PH) =>
    vZ (pF h1 a0 10 1) fun t1 =>
    some (t1, h1)) fun k58 =>
  jn (fun (h2 : PH) =>
    vZ (pF h2 a0 10 1) fun t2 =>
    if (bI t2) = 0 then
      some (true, h2)
    else
      some (false, h2)) fun k39 =>
  fx (fX10_holds_L2 a0 a1 rT k58 k39) (fun _ _ => none) FU 0 h
set_option maxHeartbeats 1000000 in
theorem kX10_holds {l : Launch} {D : PD} {A : Nat → Prop} {cap : Nat × Nat} {d : Nat} (hd : 4 ≤ d) {rT : Nat → Nat → PH → Option (Bool × PH)} {dT : Nat} (okT : OkVT l D A cap dT rT) (hdT : dT < d) {a0 : Nat} {a1 : Nat} {h h' : PH} {r : Bool} (hf : fX10_holds rT a0 a1 h = some (r, h')) : CMet l D A cap yX10_holds cX10_holds 3 (Option.some Jvm.ClassFile.FieldType.boolean) d [.ref a0, .ref a1] h h' (some (.int (bI r))) := by
  unfold fX10_holds at hf
  refine p_head (own := RX10) (ini := false) (pn_X10 rfl) rfl (fun q => by cases q) (Nat.le_of_ble_eq_true rfl) (fun m Z cx sx H0 ls X hM hl => ?_)
  have G := X.g
  have hl : lv_has ls 3 [(0, .ref a0), (1, .ref a1)] := hl
  refine g_iconst (v := 0) G dX10_holds_0 rfl ?_
  refine g_istore_n (i := 2) (lv' := [(2, .int 0), (0, .ref a0), (1, .ref a1)]) G dX10_holds_1 rfl hl (Nat.le_of_ble_eq_true rfl) rfl (fun ls hl => ?_)
  obtain ⟨k58, ek58, hf⟩ := jn_open hf
  have K58 : ∀ (h1 : PH) (H : Heap) (locs : List Loc), k58 h1 = some (r, h') → PI D A cap H0 h1 H locs → ∀ ls : Array Slot, lv_has ls 3 [(0, .ref a0)] → Z H locs (cx H) (sx H) (F0 m 58 ls []) := by
    intro h1 H locs hf hM ls hl
    rw [ek58] at hf
    refine g_aload_n G dX10_holds_58 rfl (lv_at hl 0 rfl) ?_
    obtain ⟨t1, g1, hf⟩ := vZ_open hf
    refine p_get (k := 1) X hM pc_10 (by decide) q955 rfl g1 dX10_holds_59 ?_
    exact p_zret X hM hf dX10_holds_62
  obtain ⟨k39, ek39, hf⟩ := jn_open hf
  have K39 : ∀ (h2 : PH) (H : Heap) (locs : List Loc), k39 h2 = some (r, h') → PI D A cap H0 h2 H locs → ∀ ls : Array Slot, lv_has ls 3 [(0, .ref a0)] → Z H locs (cx H) (sx H) (F0 m 39 ls []) := by
    intro h2 H locs hf hM ls hl
    rw [ek39] at hf
    refine g_aload_n G dX10_holds_39 rfl (lv_at hl 0 rfl) ?_
    obtain ⟨t2, g2, hf⟩ := vZ_open hf
    refine p_get (k := 1) X hM pc_10 (by decide) q955 rfl g2 dX10_holds_40 ?_
    refine g_if_ne (tgt := 50) G dX10_holds_43 rfl (fun c1 => ?_) (fun c1 => ?_)
    · have hf := it_neg c1 hf
      refine g_iconst (v := 0) G dX10_holds_50 rfl ?_
      exact p_zret X hM hf dX10_holds_51
    · have hf := it_pos c1 hf
      refine g_iconst (v := 1) G dX10_holds_46 rfl ?_
      refine g_goto (tgt := 51) G dX10_holds_47 rfl ?_
      exact p_zret X hM hf dX10_holds_51
  have L2 : ∀ (n : Nat) (x1 : Int32) (h3 : PH) (H : Heap) (locs : List Loc), fx (fX10_holds_L2 a0 a1 rT k58 k39) (fun _ _ => none) n x1 h3 = some (r, h') → PI D A cap H0 h3 H locs → ∀ ls : Array Slot, lv_has ls 3 [(0, .ref a0), (1, .ref a1), (2, .int x1)] → Z H locs (cx H) (sx H) (F0 m 2 ls []) := by
    intro n
    induction n with
    | zero => intro x1 h3 H locs hf; exact absurd hf (by intro q; cases q)
    | succ n ih2 =>
      intro x1 h3 H locs hf hM ls hl
      rw [fx_s] at hf
      generalize fx (fX10_holds_L2 a0 a1 rT k58 k39) (fun _ _ => none) n = s2 at hf ih2
      unfold fX10_holds_L2 at hf
      refine g_iload_n G dX10_holds_2 rfl (lv_at hl 2 rfl) ?_
      refine g_aload_n G dX10_holds_3 rfl (lv_at hl 0 rfl) ?_
      obtain ⟨p1, g3, hf⟩ := vA_open hf
      refine p_get (k := 0) X hM pc_10 (by decide) q953 rfl g3 dX10_holds_4 ?_
      obtain ⟨b1, hf⟩ := ckc_open hf
      obtain ⟨r1, h4, g4, hf⟩ := bnd_open hf
      refine p_callF_r (As := []) (rest := [.int x1]) X hM hl b1 pcy_J2_size (fun U hK => hK.1.2.2.1.1) ⟨by decide +kernel, by decide +kernel, by decide +kernel⟩ q1339 q727 q725 (kJ2_size g4) rfl (Nat.lt_of_lt_of_le (by decide) hd) (Nat.le_of_ble_eq_true rfl) rfl dX10_holds_7 (fun H locs hM => ?_)
      refine g_icmp_ge (tgt := 58) G dX10_holds_12 rfl (fun c2 => ?_) (fun c2 => ?_)
      · have hf := it_pos c2 hf
        exact K58 _ _ _ hf hM ls (lv_sub hl [0] rfl)
      · have hf := it_neg c2 hf
        refine g_aload_n G dX10_holds_15 rfl (lv_at hl 0 rfl) ?_
        obtain ⟨p2, g5, hf⟩ := vA_open hf
        refine p_get (k := 0) X hM pc_10 (by decide) q953 rfl g5 dX10_holds_16 ?_
        refine g_iload_n G dX10_holds_19 rfl (lv_at hl 2 rfl) ?_
        obtain ⟨b2, hf⟩ := ckc_open hf
        obtain ⟨q1, h5, g6, hf⟩ := bnd_open hf
        refine p_callF_r (As := [.int x1]) (rest := []) X hM hl b2 pcy_J2_get (fun U hK => hK.1.2.2.1.2.1) ⟨by decide +kernel, by decide +kernel, by decide +kernel⟩ q1341 q763 q761 (kJ2_get g6) rfl (Nat.lt_of_lt_of_le (by decide) hd) (Nat.le_of_ble_eq_true rfl) rfl dX10_holds_20 (fun H locs hM => ?_)
        obtain ⟨n1, e1, hfq⟩ := qS_open hf
        clear hf; subst e1; have hf := hfq; clear hfq
        obtain ⟨b3, hf⟩ := ck_open hf
        refine p_castTst X hM q1342 (isTst_open b3) dX10_holds_25 ?_
        refine g_aload_n G dX10_holds_28 rfl (lv_at hl 1 rfl) ?_
        obtain ⟨r2, h6, g7, hf⟩ := bnd_open hf
        refine p_callVT (rest := []) X hM hl q1343 (okT _ _ _ _ _ g7) hdT (Nat.le_of_ble_eq_true rfl) dX10_holds_29 (fun H locs hM => ?_)
        refine g_aload_n G dX10_holds_32 rfl (lv_at hl 0 rfl) ?_
        obtain ⟨t3, g8, hf⟩ := vZ_open hf
        refine p_get (k := 1) X hM pc_10 (by decide) q955 rfl g8 dX10_holds_33 ?_
        refine g_icmp_eq (tgt := 52) G dX10_holds_36 rfl (fun c3 => ?_) (fun c3 => ?_)
        · have hf := it_pos c3 hf
          refine g_iinc (v := x1 + 1) (lv' := [(2, .int (x1 + 1)), (0, .ref a0), (1, .ref a1)]) G dX10_holds_52 hl (k := 2) rfl rfl (Nat.le_of_ble_eq_true rfl) rfl (fun ls hl => ?_)
          refine g_goto (tgt := 2) G dX10_holds_55 rfl ?_
          exact ih2 _ _ _ _ hf hM ls (lv_sub hl [1, 2, 0] rfl)
        · have hf := it_neg c3 hf
          exact K39 _ _ _ hf hM ls (lv_sub hl [0] rfl)
  exact L2 FU _ _ _ _ hf hM ls (lv_sub hl [1, 2, 0] rfl)
noncomputable def fX19_holds (rA : Nat → Nat → PH → Option (Int64 × PH)) (a0 : Nat) (a1 : Nat) (h : PH) : Option (Bool × PH) :=
  vA (pF h a0 19 0) fun p1 =>
  bnd (rA p1 a1 h) fun r1 h1 =>
  vA (pF h1 a0 19 1) fun p2 =>
  bnd (rA p2 a1 h1) fun r2 h2 =>
  vI (pF h2 a0 19 2) fun v1 =>
  if v1 = (60 : Int32) then
    if r2 ≤ r1 then
      some (false, h2)
    else
      some (true, h2)
  else
    vI (pF h2 a0 19 2) fun v2 =>
    if v2 = (62 : Int32) then
      if r1 ≤ r2 then
        some (false, h2)
      else
        some (true, h2)
    else
      if r1 = r2 then
        some (true, h2)
      else
        some (false, h2)
set_option maxHeartbeats 1000000 in
theorem kX19_holds {l : Launch} {D : PD} {A : Nat → Prop} {cap : Nat × Nat} {d : Nat} (hd : 1 ≤ d) {rA : Nat → Nat → PH → Option (Int64 × PH)} {dA : Nat} (okA : OkVA l D A cap dA rA) (hdA : dA < d) {a0 : Nat} {a1 : Nat} {h h' : PH} {r : Bool} (hf : fX19_holds rA a0 a1 h = some (r, h')) : CMet l D A cap yX19_holds cX19_holds 6 (Option.some Jvm.ClassFile.FieldType.boolean) d [.ref a0, .ref a1] h h' (some (.int (bI r))) := by
  unfold fX19_holds at hf
  refine p_head (own := RX19) (ini := false) (pn_X19 rfl) rfl (fun q => by cases q) (Nat.le_of_ble_eq_true rfl) (fun m Z cx sx H0 ls X hM hl => ?_)
  have G := X.g
  have hl : lv_has ls 6 [(0, .ref a0), (1, .ref a1)] := hl
  refine g_aload_n G dX19_holds_0 rfl (lv_at hl 0 rfl) ?_
  obtain ⟨p1, g1, hf⟩ := vA_open hf
  refine p_get (k := 0) X hM pc_19 (by decide) q1190 rfl g1 dX19_holds_1 ?_
  refine g_aload_n G dX19_holds_4 rfl (lv_at hl 1 rfl) ?_
  obtain ⟨r1, h1, g2, hf⟩ := bnd_open hf
  refine p_callVA (rest := []) X hM hl q1349 (okA _ _ _ _ _ g2) hdA (Nat.le_of_ble_eq_true rfl) dX19_holds_5 (fun H locs hM => ?_)
  refine g_lstore_n (i := 2) (lv' := [(2, .long r1), (0, .ref a0), (1, .ref a1)]) G dX19_holds_8 rfl hl (Nat.le_of_ble_eq_true rfl) rfl (fun ls hl => ?_)
  refine g_aload_n G dX19_holds_9 rfl (lv_at hl 1 rfl) ?_
  obtain ⟨p2, g3, hf⟩ := vA_open hf
  refine p_get (k := 1) X hM pc_19 (by decide) q1191 rfl g3 dX19_holds_10 ?_
  refine g_aload_n G dX19_holds_13 rfl (lv_at hl 2 rfl) ?_
  obtain ⟨r2, h2, g4, hf⟩ := bnd_open hf
  refine p_callVA (rest := []) X hM hl q1349 (okA _ _ _ _ _ g4) hdA (Nat.le_of_ble_eq_true rfl) dX19_holds_14 (fun H locs hM => ?_)
  refine g_lstore (lv' := [(4, .long r2), (2, .long r1), (0, .ref a0), (1, .ref a1)]) G dX19_holds_17 hl (Nat.le_of_ble_eq_true rfl) rfl (fun ls hl => ?_)
  refine g_aload_n G dX19_holds_19 rfl (lv_at hl 2 rfl) ?_
  obtain ⟨v1, g5, hf⟩ := vI_open hf
  refine p_get (k := 2) X hM pc_19 (by decide) q1192 rfl g5 dX19_holds_20 ?_
  refine g_bipush (v := 60) G dX19_holds_23 rfl ?_
  refine g_icmp_ne (tgt := 43) G dX19_holds_25 rfl (fun c1 => ?_) (fun c1 => ?_)
  · have hf := it_neg c1 hf
    refine g_aload_n G dX19_holds_43 rfl (lv_at hl 2 rfl) ?_
    obtain ⟨v2, g6, hf⟩ := vI_open hf
    refine p_get (k := 2) X hM pc_19 (by decide) q1192 rfl g6 dX19_holds_44 ?_
    refine g_bipush (v := 62) G dX19_holds_47 rfl ?_
    refine g_icmp_ne (tgt := 67) G dX19_holds_49 rfl (fun c2 => ?_) (fun c2 => ?_)
    · have hf := it_neg c2 hf
      refine g_lload_n G dX19_holds_67 rfl (lv_at hl 1 rfl) ?_
      refine g_lload G dX19_holds_68 (lv_at hl 0 rfl) ?_
      refine g_lc_ne (tgt := 78) G dX19_holds_70 dX19_holds_71 rfl (fun c3 => ?_) (fun c3 => ?_)
      · have hf := it_neg c3 hf
        refine g_iconst (v := 0) G dX19_holds_78 rfl ?_
        exact p_zret X hM hf dX19_holds_79
      · have hf := it_pos c3 hf
        refine g_iconst (v := 1) G dX19_holds_74 rfl ?_
        refine g_goto (tgt := 79) G dX19_holds_75 rfl ?_
        exact p_zret X hM hf dX19_holds_79
    · have hf := it_pos c2 hf
      refine g_lload_n G dX19_holds_52 rfl (lv_at hl 1 rfl) ?_
      refine g_lload G dX19_holds_53 (lv_at hl 0 rfl) ?_
      refine g_lc_le (tgt := 63) G dX19_holds_55 dX19_holds_56 rfl (fun c4 => ?_) (fun c4 => ?_)
      · have hf := it_pos c4 hf
        refine g_iconst (v := 0) G dX19_holds_63 rfl ?_
        refine g_goto (tgt := 79) G dX19_holds_64 rfl ?_
        exact p_zret X hM hf dX19_holds_79
      · have hf := it_neg c4 hf
        refine g_iconst (v := 1) G dX19_holds_59 rfl ?_
        refine g_goto (tgt := 79) G dX19_holds_60 rfl ?_
        exact p_zret X hM hf dX19_holds_79
  · have hf := it_pos c1 hf
    refine g_lload_n G dX19_holds_28 rfl (lv_at hl 1 rfl) ?_
    refine g_lload G dX19_holds_29 (lv_at hl 0 rfl) ?_
    refine g_lc_ge (tgt := 39) G dX19_holds_31 dX19_holds_32 rfl (fun c5 => ?_) (fun c5 => ?_)
    · have hf := it_pos c5 hf
      refine g_iconst (v := 0) G dX19_holds_39 rfl ?_
      refine g_goto (tgt := 79) G dX19_holds_40 rfl ?_
      exact p_zret X hM hf dX19_holds_79
    · have hf := it_neg c5 hf
      refine g_iconst (v := 1) G dX19_holds_35 rfl ?_
      refine g_goto (tgt := 79) G dX19_holds_36 rfl ?_
      exact p_zret X hM hf dX19_holds_79

noncomputable def vAt (D : PD) : Nat → Nat → Nat → PH → Option (Int64 × PH)
  | 0 => fun _ _ _ => none
  | n + 1 => fun a mo h => if pCls h a = some 14 then fX14_at D (vAt D n) a mo h else if pCls h a = some 15 then fX15_at (vAt D n) a mo h else if pCls h a = some 16 then fX16_at (vAt D n) a mo h else if pCls h a = some 17 then fX17_at (vAt D n) a mo h else if pCls h a = some 18 then fX18_at (vAt D n) a mo h else none
noncomputable def vHolds (D : PD) : Nat → Nat → Nat → PH → Option (Bool × PH)
  | 0 => fun _ _ _ => none
  | n + 1 => fun a mo h => if pCls h a = some 10 then fX10_holds (vHolds D n) a mo h else if pCls h a = some 11 then fX11_holds (vHolds D n) a mo h else if pCls h a = some 12 then fX12_holds (vHolds D n) a mo h else if pCls h a = some 19 then fX19_holds (vAt D n) a mo h else none
theorem ok_vAt {l : Launch} {D : PD} {A : Nat → Prop} {cap : Nat × Nat} : ∀ n, OkVA l D A cap (20 + n) (vAt D n)
  | 0 => fun a mo h h1 r hf => by cases hf
  | n + 1 => fun a mo h h1 r hf => by
    have ih := ok_vAt (l := l) (D := D) (A := A) (cap := cap) n
    unfold vAt at hf
    by_cases c1 : pCls h a = some 14
    · exact Or.inl ⟨c1, kX14_at (by omega) ih (by omega) (it_pos c1 hf)⟩
    have hf := it_neg c1 hf
    by_cases c2 : pCls h a = some 15
    · exact Or.inr (Or.inl ⟨c2, kX15_at (by omega) ih (by omega) (it_pos c2 hf)⟩)
    have hf := it_neg c2 hf
    by_cases c3 : pCls h a = some 16
    · exact Or.inr (Or.inr (Or.inl ⟨c3, kX16_at (by omega) ih (by omega) (it_pos c3 hf)⟩))
    have hf := it_neg c3 hf
    by_cases c4 : pCls h a = some 17
    · exact Or.inr (Or.inr (Or.inr (Or.inl ⟨c4, kX17_at (by omega) ih (by omega) (it_pos c4 hf)⟩)))
    have hf := it_neg c4 hf
    by_cases c5 : pCls h a = some 18
    · exact Or.inr (Or.inr (Or.inr (Or.inr ⟨c5, kX18_at (by omega) ih (by omega) (it_pos c5 hf)⟩)))
    have hf := it_neg c5 hf
    cases hf
theorem ok_vHolds {l : Launch} {D : PD} {A : Nat → Prop} {cap : Nat × Nat} : ∀ n, OkVT l D A cap (25 + n) (vHolds D n)
  | 0 => fun a mo h h1 r hf => by cases hf
  | n + 1 => fun a mo h h1 r hf => by
    have ih := ok_vHolds (l := l) (D := D) (A := A) (cap := cap) n
    have ia := ok_vAt (l := l) (D := D) (A := A) (cap := cap) n
    unfold vHolds at hf
    by_cases c1 : pCls h a = some 10
    · exact Or.inl ⟨c1, kX10_holds (by omega) ih (by omega) (it_pos c1 hf)⟩
    have hf := it_neg c1 hf
    by_cases c2 : pCls h a = some 11
    · exact Or.inr (Or.inl ⟨c2, kX11_holds (by omega) ih (by omega) (it_pos c2 hf)⟩)
    have hf := it_neg c2 hf
    by_cases c3 : pCls h a = some 12
    · exact Or.inr (Or.inr (Or.inl ⟨c3, kX12_holds (by omega) ih (by omega) (it_pos c3 hf)⟩))
    have hf := it_neg c3 hf
    by_cases c4 : pCls h a = some 19
    · exact Or.inr (Or.inr (Or.inr ⟨c4, kX19_holds (by omega) ia (by omega) (it_pos c4 hf)⟩))
    have hf := it_neg c4 hf
    cases hf
