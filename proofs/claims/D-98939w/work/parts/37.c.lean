/-! PART 37.c (printed by dc.py, mkc.py) -/
set_option maxRecDepth 100000
noncomputable def fX0_school (D : PD) (cap : Nat × Nat) (a0 : Nat) (h : PH) : Option (Int32 × PH) :=
  bnv (pPut h a0 0 3 (.int 0)) fun h1 =>
  bnv (pPut h1 a0 0 4 (.int (-1))) fun h2 =>
  vA (pF h2 a0 0 5) fun p1 =>
  ckc (pCls h2 a0) 0 <|
  bnd (fX0_taken a0 h2) fun r1 h3 =>
  ckc (pCls h3 p1) 2 <|
  bnc (fX2_all D cap p1 r1 h3) (fun n1 h5 =>
    ckc (pCls h5 n1) 3 <|
    vI (pF h5 n1 3 6) fun v1 =>
    bnv (pPut h5 a0 0 3 (.int v1)) fun h6 =>
    vI (pF h6 n1 3 7) fun v2 =>
    bnv (pPut h6 a0 0 4 (.int v2)) fun h7 =>
    ckc (pCls h7 a0) 0 <|
    bnd (fX0_refuses a0 1 h7) fun r2 h8 =>
    some (r2, h8)) fun p2 h4 =>
  bnv (pPut h4 a0 0 0 (.ref p2)) fun h9 =>
  vA (pF h9 a0 0 9) fun p3 =>
  ckc (pCls h9 p3) 5 <|
  bnv (fX5_begins p3 h9) fun h10 =>
  bnv (pPut h10 a0 0 16 (.int 0)) fun h11 =>
  bnv (pPut h11 a0 0 13 (.int 0)) fun h12 =>
  vA (pF h12 a0 0 0) fun p4 =>
  vI (pF h12 p4 1 0) fun v3 =>
  some (v3, h12)
set_option maxHeartbeats 1000000 in
theorem kX0_school {l : Launch} {D : PD} {A : Nat → Prop} {cap : Nat × Nat} {a0 : Nat} {h h' : PH} {r : Int32} (hf : fX0_school D cap a0 h = some (r, h')) : CMetH l D A cap yX0_school cX0_school 2 (Option.some Jvm.ClassFile.FieldType.int) [(10, 25, 28, 120)] 152 [.ref a0] h h' (some (.int r)) := by
  unfold fX0_school at hf
  refine p_headH (own := RX0) (pn_X0 rfl) rfl (Nat.le_of_ble_eq_true rfl) (fun m Z cx sx H0 ls X XH hM hl => ?_)
  have G := X.g
  have hl : lv_has ls 2 [(0, .ref a0)] := hl
  refine g_aload_n G dX0_school_0 rfl (lv_at hl 0 rfl) ?_
  refine g_iconst (v := 0) G dX0_school_1 rfl ?_
  obtain ⟨h1, g1, hf⟩ := bnv_open hf
  refine p_put (k := 3) X hM pc_0 (by decide) q450 rfl rfl rfl rfl g1 dX0_school_2 (fun H locs hM => ?_)
  refine g_aload_n G dX0_school_5 rfl (lv_at hl 0 rfl) ?_
  refine g_iconst (v := (-1)) G dX0_school_6 rfl ?_
  obtain ⟨h2, g2, hf⟩ := bnv_open hf
  refine p_put (k := 4) X hM pc_0 (by decide) q451 rfl rfl rfl rfl g2 dX0_school_7 (fun H locs hM => ?_)
  refine g_aload_n G dX0_school_10 rfl (lv_at hl 0 rfl) ?_
  refine g_aload_n G dX0_school_11 rfl (lv_at hl 0 rfl) ?_
  obtain ⟨p1, g3, hf⟩ := vA_open hf
  refine p_get (k := 5) X hM pc_0 (by decide) q452 rfl g3 dX0_school_12 ?_
  refine g_aload_n G dX0_school_15 rfl (lv_at hl 0 rfl) ?_
  obtain ⟨b1, hf⟩ := ckc_open hf
  obtain ⟨r1, h3, g4, hf⟩ := bnd_open hf
  refine p_callV_r (ci := 0) (As := []) (rest := [.ref p1, .ref a0]) X hM hl rfl b1 pcy_X0_taken q533 q535 qs3 (kX0_taken g4) rfl (Nat.le_of_ble_eq_true rfl) (Nat.le_of_ble_eq_true rfl) rfl dX0_school_16 (fun H locs hM => ?_)
  obtain ⟨b2, hf⟩ := ckc_open hf
  refine bnc_split hf (fun n1 h5 g6 hf => ?_) (fun p2 h4 g5 hf => ?_)
  · obtain ⟨b3, hf⟩ := ckc_open hf
    refine p_callC (ci := 2) (As := [.int r1]) (rest := [.ref a0]) XH hM hl rfl b2 pcy_X2_all q537 q538 q539 (xX2_all g6) rfl (Nat.le_of_ble_eq_true rfl) (Nat.le_of_ble_eq_true rfl) rfl dX0_school_19 (ec := 3) rfl b3 rfl rfl (by decide) q532 rfl (fun H locs hM => ?_)
    refine g_astore_n (i := 1) (lv' := [(1, .ref n1), (0, .ref a0)]) G dX0_school_28 rfl hl (Nat.le_of_ble_eq_true rfl) rfl (fun ls hl => ?_)
    refine g_aload_n G dX0_school_29 rfl (lv_at hl 1 rfl) ?_
    refine g_aload_n G dX0_school_30 rfl (lv_at hl 0 rfl) ?_
    obtain ⟨v1, g7, hf⟩ := vI_open hf
    refine p_getN (k := 6) X hM pc_3 (by decide) q328 rfl g7 dX0_school_31 ?_
    obtain ⟨h6, g8, hf⟩ := bnv_open hf
    refine p_put (k := 3) X hM pc_0 (by decide) q450 rfl rfl rfl rfl g8 dX0_school_34 (fun H locs hM => ?_)
    refine g_aload_n G dX0_school_37 rfl (lv_at hl 1 rfl) ?_
    refine g_aload_n G dX0_school_38 rfl (lv_at hl 0 rfl) ?_
    obtain ⟨v2, g9, hf⟩ := vI_open hf
    refine p_getN (k := 7) X hM pc_3 (by decide) q330 rfl g9 dX0_school_39 ?_
    obtain ⟨h7, g10, hf⟩ := bnv_open hf
    refine p_put (k := 4) X hM pc_0 (by decide) q451 rfl rfl rfl rfl g10 dX0_school_42 (fun H locs hM => ?_)
    refine g_aload_n G dX0_school_45 rfl (lv_at hl 1 rfl) ?_
    refine g_iconst (v := 1) G dX0_school_46 rfl ?_
    obtain ⟨b4, hf⟩ := ckc_open hf
    obtain ⟨r2, h8, g11, hf⟩ := bnd_open hf
    refine p_callV_r (ci := 0) (As := [.int 1]) (rest := []) X hM hl rfl b4 pcy_X0_refuses q516 q518 qs1 (kX0_refuses g11) rfl (Nat.le_of_ble_eq_true rfl) (Nat.le_of_ble_eq_true rfl) rfl dX0_school_47 (fun H locs hM => ?_)
    exact p_iret X hM hf dX0_school_50
  refine p_callV_r (ci := 2) (As := [.int r1]) (rest := [.ref a0]) X hM hl rfl b2 pcy_X2_all q537 q538 q539 (kX2_all g5) rfl (Nat.le_of_ble_eq_true rfl) (Nat.le_of_ble_eq_true rfl) rfl dX0_school_19 (fun H locs hM => ?_)
  obtain ⟨h9, g12, hf⟩ := bnv_open hf
  refine p_put (k := 0) X hM pc_0 (by decide) q446 rfl rfl rfl rfl g12 dX0_school_22 (fun H locs hM => ?_)
  refine g_goto (tgt := 51) G dX0_school_25 rfl ?_
  refine g_aload_n G dX0_school_51 rfl (lv_at hl 0 rfl) ?_
  obtain ⟨p3, g13, hf⟩ := vA_open hf
  refine p_get (k := 9) X hM pc_0 (by decide) q457 rfl g13 dX0_school_52 ?_
  obtain ⟨b5, hf⟩ := ckc_open hf
  obtain ⟨h10, g14, hf⟩ := bnv_open hf
  refine p_callV_v (ci := 5) (As := []) (rest := []) X hM hl rfl b5 pcy_X5_begins q1202 q1203 q1204 (kX5_begins g14) rfl (Nat.le_of_ble_eq_true rfl) (Nat.le_of_ble_eq_true rfl) rfl dX0_school_55 (fun H locs hM => ?_)
  refine g_aload_n G dX0_school_58 rfl (lv_at hl 0 rfl) ?_
  refine g_iconst (v := 0) G dX0_school_59 rfl ?_
  obtain ⟨h11, g15, hf⟩ := bnv_open hf
  refine p_put (k := 16) X hM pc_0 (by decide) q464 rfl rfl rfl rfl g15 dX0_school_60 (fun H locs hM => ?_)
  refine g_aload_n G dX0_school_63 rfl (lv_at hl 0 rfl) ?_
  refine g_iconst (v := 0) G dX0_school_64 rfl ?_
  obtain ⟨h12, g16, hf⟩ := bnv_open hf
  refine p_put (k := 13) X hM pc_0 (by decide) q461 rfl rfl rfl rfl g16 dX0_school_65 (fun H locs hM => ?_)
  refine g_aload_n G dX0_school_68 rfl (lv_at hl 0 rfl) ?_
  obtain ⟨p4, g17, hf⟩ := vA_open hf
  refine p_get (k := 0) X hM pc_0 (by decide) q446 rfl g17 dX0_school_69 ?_
  obtain ⟨v3, g18, hf⟩ := vI_open hf
  refine p_getN (k := 0) X hM pc_1 (by decide) q226 rfl g18 dX0_school_72 ?_
  exact p_iret X hM hf dX0_school_75
noncomputable def fX0_ask_L68 (D : PD) (a0 : Nat) (a1 : Int32) (p2 : Nat) (k308 : PH → Option (Int64 × PH)) (s68 : PH → Option (Int64 × PH)) (h12 : PH) : Option (Int64 × PH) :=
  vI (pF h12 a0 0 18) fun v3 =>
  ckc (pCls h12 a0) 0 <|
  bnd (fX0_facts a0 h12) fun r4 h13 =>
  if r4 ≤ v3 then
    k308 h13
  else
    vA (pF h13 a0 0 7) fun p3 =>
    vA (pF h13 p3 4 0) fun p4 =>
    ckc (pCls h13 a0) 0 <|
    bnd (fX0_calmOf a0 a1 h13) fun r5 h14 =>
    bnv (pStJ h14 p4 1 0 (Int32.toInt64 r5)) fun h15 =>
    vA (pF h15 a0 0 7) fun p5 =>
    vA (pF h15 p5 4 0) fun p6 =>
    vI (pF h15 a0 0 18) fun v4 =>
    ckc (pCls h15 a0) 0 <|
    bnd (fX0_standing a0 v4 1 h15) fun r6 h16 =>
    bnv (pStJ h16 p6 1 1 (Int32.toInt64 r6)) fun h17 =>
    vA (pF h17 a0 0 7) fun p7 =>
    vA (pF h17 p7 4 0) fun p8 =>
    vI (pF h17 a0 0 18) fun v5 =>
    ckc (pCls h17 a0) 0 <|
    bnd (fX0_standing a0 v5 2 h17) fun r7 h18 =>
    bnv (pStJ h18 p8 1 2 (Int32.toInt64 r7)) fun h19 =>
    vA (pF h19 a0 0 7) fun p9 =>
    vA (pF h19 p9 4 0) fun p10 =>
    vA (pF h19 a0 0 9) fun p11 =>
    vI (pF h19 p11 5 0) fun v6 =>
    bnv (pStJ h19 p10 1 3 (Int32.toInt64 v6)) fun h20 =>
    vA (pF h20 a0 0 7) fun p12 =>
    vA (pF h20 p12 4 0) fun p13 =>
    vI (pF h20 a0 0 18) fun v7 =>
    ckc (pCls h20 a0) 0 <|
    bnd (fX0_worthOf a0 v7 h20) fun r8 h21 =>
    bnv (pStJ h21 p13 1 4 (Int32.toInt64 r8)) fun h22 =>
    vA (pF h22 a0 0 7) fun p14 =>
    vA (pF h22 p14 4 0) fun p15 =>
    vA (pF h22 a0 0 9) fun p16 =>
    vA (pF h22 p16 5 7) fun p17 =>
    ob (pLd h22 p17 0 a1) fun v8 =>
    bnv (pStJ h22 p15 1 7 (Int32.toInt64 v8)) fun h23 =>
    vA (pF h23 a0 0 7) fun p18 =>
    vA (pF h23 p18 4 0) fun p19 =>
    vA (pF h23 a0 0 9) fun p20 =>
    ckc (pCls h23 p20) 5 <|
    bnd (fX5_marks p20 a1 h23) fun r9 h24 =>
    bnv (pStJ h24 p19 1 8 (Int32.toInt64 r9)) fun h25 =>
    vA (pF h25 a0 0 7) fun p21 =>
    vA (pF h25 p21 4 0) fun p22 =>
    vI (pF h25 a0 0 18) fun v9 =>
    bnv (pStJ h25 p22 1 9 (Int32.toInt64 v9)) fun h26 =>
    vA (pF h26 a0 0 7) fun p23 =>
    vA (pF h26 p23 4 0) fun p24 =>
    vA (pF h26 a0 0 9) fun p25 =>
    vI (pF h26 a0 0 18) fun v10 =>
    ckc (pCls h26 p25) 5 <|
    bnd (fX5_stands p25 a1 v10 h26) fun r10 h27 =>
    jn (fun (x1 : Int64) (h28 : PH) =>
      bnv (pStJ h28 p24 1 10 x1) fun h29 =>
      vA (pF h29 a0 0 7) fun p26 =>
      vA (pF h29 p26 4 0) fun p27 =>
      vA (pF h29 a0 0 9) fun p28 =>
      vI (pF h29 a0 0 18) fun v11 =>
      ckc (pCls h29 p28) 5 <|
      bnd (fX5_stands p28 a1 v11 h29) fun r11 h30 =>
      jn (fun (x2 : Int64) (h31 : PH) =>
        bnv (pStJ h31 p27 1 11 x2) fun h32 =>
        vI (pF h32 a0 0 18) fun v12 =>
        vA (pF h32 a0 0 7) fun p29 =>
        ckc (pCls h32 p2) 20 <|
        bnv (fX20_meets D p2 v12 p29 h32) fun h33 =>
        vI (pF h33 a0 0 18) fun v13 =>
        bnv (pPut h33 a0 0 18 (.int (v13 + 1))) fun h34 =>
        s68 h34) fun j282 =>
      if r11 = (2 : Int32) then
        j282 1 h30
      else
        j282 0 h30) fun j251 =>
    if r10 = (1 : Int32) then
      j251 1 h27
    else
      j251 0 h27
noncomputable def fX0_ask (D : PD) (cap : Nat × Nat) (a0 : Nat) (a1 : Int32) (h : PH) : Option (Int64 × PH) :=
  ckc (pCls h a0) 0 <|
  bnd (fX0_taken a0 h) fun r1 h1 =>
  ckc (pCls h1 a0) 0 <|
  bnd (fX0_isPerson a0 a1 h1) fun r2 h2 =>
  if (bI r2) = 0 then
    some (((-1000000000000000)), h2)
  else
    bnv (pPut h2 a0 0 3 (.int 0)) fun h3 =>
    bnv (pPut h3 a0 0 4 (.int (-1))) fun h4 =>
    vA (pF h4 a0 0 5) fun p1 =>
    ckc (pCls h4 p1) 2 <|
    bnc (fX2_question D cap p1 r1 h4) (fun n1 h6 =>
      ckc (pCls h6 n1) 3 <|
      vI (pF h6 n1 3 6) fun v1 =>
      bnv (pPut h6 a0 0 3 (.int v1)) fun h7 =>
      vI (pF h7 n1 3 7) fun v2 =>
      bnv (pPut h7 a0 0 4 (.int v2)) fun h8 =>
      some (((-1000000000000000)), h8)) fun p2 h5 =>
    bnv (pPut h5 a0 0 18 (.int 0)) fun h9 =>
    jn (fun (h10 : PH) =>
      ckc (pCls h10 p2) 20 <|
      bnd (fX20_answer p2 h10) fun r3 h11 =>
      some (r3, h11)) fun k308 =>
    fx (fX0_ask_L68 D a0 a1 p2 k308) (fun _ => none) FU  h9
set_option maxHeartbeats 1000000 in
theorem kX0_ask {l : Launch} {D : PD} {A : Nat → Prop} {cap : Nat × Nat} {a0 : Nat} {a1 : Int32} {h h' : PH} {r : Int64} (hf : fX0_ask D cap a0 a1 h = some (r, h')) : CMetH l D A cap yX0_ask cX0_ask 5 (Option.some Jvm.ClassFile.FieldType.long) [(27, 36, 39, 120)] 150 [.ref a0, .int a1] h h' (some (.long r)) := by
  unfold fX0_ask at hf
  refine p_headH (own := RX0) (pn_X0 rfl) rfl (Nat.le_of_ble_eq_true rfl) (fun m Z cx sx H0 ls X XH hM hl => ?_)
  have G := X.g
  have hl : lv_has ls 5 [(0, .ref a0), (1, .int a1)] := hl
  refine g_aload_n G dX0_ask_0 rfl (lv_at hl 0 rfl) ?_
  obtain ⟨b1, hf⟩ := ckc_open hf
  obtain ⟨r1, h1, g1, hf⟩ := bnd_open hf
  refine p_callV_r (ci := 0) (As := []) (rest := []) X hM hl rfl b1 pcy_X0_taken q533 q535 qs3 (kX0_taken g1) rfl (Nat.le_of_ble_eq_true rfl) (Nat.le_of_ble_eq_true rfl) rfl dX0_ask_1 (fun H locs hM => ?_)
  refine g_istore_n (i := 2) (lv' := [(2, .int r1), (0, .ref a0), (1, .int a1)]) G dX0_ask_4 rfl hl (Nat.le_of_ble_eq_true rfl) rfl (fun ls hl => ?_)
  refine g_aload_n G dX0_ask_5 rfl (lv_at hl 1 rfl) ?_
  refine g_iload_n G dX0_ask_6 rfl (lv_at hl 2 rfl) ?_
  obtain ⟨b2, hf⟩ := ckc_open hf
  obtain ⟨r2, h2, g2, hf⟩ := bnd_open hf
  refine p_callV_r (ci := 0) (As := [.int a1]) (rest := []) X hM hl rfl b2 pcy_X0_isPerson q1290 q1292 qs39 (kX0_isPerson g2) rfl (Nat.le_of_ble_eq_true rfl) (Nat.le_of_ble_eq_true rfl) rfl dX0_ask_7 (fun H locs hM => ?_)
  refine g_if_ne (tgt := 17) G dX0_ask_10 rfl (fun c1 => ?_) (fun c1 => ?_)
  · have hf := it_neg c1 hf
    refine g_aload_n G dX0_ask_17 rfl (lv_at hl 1 rfl) ?_
    refine g_iconst (v := 0) G dX0_ask_18 rfl ?_
    obtain ⟨h3, g3, hf⟩ := bnv_open hf
    refine p_put (k := 3) X hM pc_0 (by decide) q450 rfl rfl rfl rfl g3 dX0_ask_19 (fun H locs hM => ?_)
    refine g_aload_n G dX0_ask_22 rfl (lv_at hl 1 rfl) ?_
    refine g_iconst (v := (-1)) G dX0_ask_23 rfl ?_
    obtain ⟨h4, g4, hf⟩ := bnv_open hf
    refine p_put (k := 4) X hM pc_0 (by decide) q451 rfl rfl rfl rfl g4 dX0_ask_24 (fun H locs hM => ?_)
    refine g_aload_n G dX0_ask_27 rfl (lv_at hl 1 rfl) ?_
    obtain ⟨p1, g5, hf⟩ := vA_open hf
    refine p_get (k := 5) X hM pc_0 (by decide) q452 rfl g5 dX0_ask_28 ?_
    refine g_iload_n G dX0_ask_31 rfl (lv_at hl 0 rfl) ?_
    obtain ⟨b3, hf⟩ := ckc_open hf
    refine bnc_split hf (fun n1 h6 g7 hf => ?_) (fun p2 h5 g6 hf => ?_)
    · obtain ⟨b4, hf⟩ := ckc_open hf
      refine p_callC (ci := 2) (As := [.int r1]) (rest := []) XH hM hl rfl b3 pcy_X2_question q1550 q1551 q1552 (xX2_question g7) rfl (Nat.le_of_ble_eq_true rfl) (Nat.le_of_ble_eq_true rfl) rfl dX0_ask_32 (ec := 3) rfl b4 rfl rfl (by decide) q532 rfl (fun H locs hM => ?_)
      refine g_astore (lv' := [(4, .ref n1), (2, .int r1), (0, .ref a0), (1, .int a1)]) G dX0_ask_39 hl (Nat.le_of_ble_eq_true rfl) rfl (fun ls hl => ?_)
      refine g_aload_n G dX0_ask_41 rfl (lv_at hl 2 rfl) ?_
      refine g_aload G dX0_ask_42 (lv_at hl 0 rfl) ?_
      obtain ⟨v1, g8, hf⟩ := vI_open hf
      refine p_getN (k := 6) X hM pc_3 (by decide) q328 rfl g8 dX0_ask_44 ?_
      obtain ⟨h7, g9, hf⟩ := bnv_open hf
      refine p_put (k := 3) X hM pc_0 (by decide) q450 rfl rfl rfl rfl g9 dX0_ask_47 (fun H locs hM => ?_)
      refine g_aload_n G dX0_ask_50 rfl (lv_at hl 2 rfl) ?_
      refine g_aload G dX0_ask_51 (lv_at hl 0 rfl) ?_
      obtain ⟨v2, g10, hf⟩ := vI_open hf
      refine p_getN (k := 7) X hM pc_3 (by decide) q330 rfl g10 dX0_ask_53 ?_
      obtain ⟨h8, g11, hf⟩ := bnv_open hf
      refine p_put (k := 4) X hM pc_0 (by decide) q451 rfl rfl rfl rfl g11 dX0_ask_56 (fun H locs hM => ?_)
      refine g_ldc2 G q1313 dX0_ask_59 ?_
      exact p_lret X hM hf dX0_ask_62
    refine p_callV_r (ci := 2) (As := [.int r1]) (rest := []) X hM hl rfl b3 pcy_X2_question q1550 q1551 q1552 (kX2_question g6) rfl (Nat.le_of_ble_eq_true rfl) (Nat.le_of_ble_eq_true rfl) rfl dX0_ask_32 (fun H locs hM => ?_)
    refine g_astore_n (i := 3) (lv' := [(3, .ref p2), (2, .int r1), (0, .ref a0), (1, .int a1)]) G dX0_ask_35 rfl hl (Nat.le_of_ble_eq_true rfl) rfl (fun ls hl => ?_)
    refine g_goto (tgt := 63) G dX0_ask_36 rfl ?_
    refine g_aload_n G dX0_ask_63 rfl (lv_at hl 2 rfl) ?_
    refine g_iconst (v := 0) G dX0_ask_64 rfl ?_
    obtain ⟨h9, g12, hf⟩ := bnv_open hf
    refine p_put (k := 18) X hM pc_0 (by decide) q466 rfl rfl rfl rfl g12 dX0_ask_65 (fun H locs hM => ?_)
    obtain ⟨k308, ek308, hf⟩ := jn_open hf
    have K308 : ∀ (h10 : PH) (H : Heap) (locs : List Loc), k308 h10 = some (r, h') → PI D A cap H0 h10 H locs → ∀ ls : Array Slot, lv_has ls 5 [(3, .ref p2)] → Z H locs (cx H) (sx H) (F0 m 308 ls []) := by
      intro h10 H locs hf hM ls hl
      rw [ek308] at hf
      refine g_aload_n G dX0_ask_308 rfl (lv_at hl 0 rfl) ?_
      obtain ⟨b5, hf⟩ := ckc_open hf
      obtain ⟨r3, h11, g13, hf⟩ := bnd_open hf
      refine p_callV_r (ci := 20) (As := []) (rest := []) X hM hl rfl b5 pcy_X20_answer q1587 q1588 q1589 (kX20_answer g13) rfl (Nat.le_of_ble_eq_true rfl) (Nat.le_of_ble_eq_true rfl) rfl dX0_ask_309 (fun H locs hM => ?_)
      exact p_lret X hM hf dX0_ask_312
    have L68 : ∀ (n : Nat) (h12 : PH) (H : Heap) (locs : List Loc), fx (fX0_ask_L68 D a0 a1 p2 k308) (fun _ => none) n h12 = some (r, h') → PI D A cap H0 h12 H locs → ∀ ls : Array Slot, lv_has ls 5 [(0, .ref a0), (1, .int a1), (3, .ref p2)] → Z H locs (cx H) (sx H) (F0 m 68 ls []) := by
      intro n
      induction n with
      | zero => intro h12 H locs hf; exact absurd hf (by intro q; cases q)
      | succ n ih68 =>
        intro h12 H locs hf hM ls hl
        rw [fx_s] at hf
        generalize fx (fX0_ask_L68 D a0 a1 p2 k308) (fun _ => none) n = s68 at hf ih68
        unfold fX0_ask_L68 at hf
        refine g_aload_n G dX0_ask_68 rfl (lv_at hl 0 rfl) ?_
        obtain ⟨v3, g14, hf⟩ := vI_open hf
        refine p_get (k := 18) X hM pc_0 (by decide) q466 rfl g14 dX0_ask_69 ?_
        refine g_aload_n G dX0_ask_72 rfl (lv_at hl 0 rfl) ?_
        obtain ⟨b6, hf⟩ := ckc_open hf
        obtain ⟨r4, h13, g15, hf⟩ := bnd_open hf
        refine p_callV_r (ci := 0) (As := []) (rest := [.int v3]) X hM hl rfl b6 pcy_X0_facts q1223 q1225 qs35 (kX0_facts g15) rfl (Nat.le_of_ble_eq_true rfl) (Nat.le_of_ble_eq_true rfl) rfl dX0_ask_73 (fun H locs hM => ?_)
        refine g_icmp_ge (tgt := 308) G dX0_ask_76 rfl (fun c2 => ?_) (fun c2 => ?_)
        · have hf := it_pos c2 hf
          exact K308 _ _ _ hf hM ls (lv_sub hl [2] rfl)
        · have hf := it_neg c2 hf
          refine g_aload_n G dX0_ask_79 rfl (lv_at hl 0 rfl) ?_
          obtain ⟨p3, g16, hf⟩ := vA_open hf
          refine p_get (k := 7) X hM pc_0 (by decide) q455 rfl g16 dX0_ask_80 ?_
          obtain ⟨p4, g17, hf⟩ := vA_open hf
          refine p_getN (k := 0) X hM pc_4 (by decide) q383 rfl g17 dX0_ask_83 ?_
          refine g_iconst (v := 0) G dX0_ask_86 rfl ?_
          refine g_aload_n G dX0_ask_87 rfl (lv_at hl 0 rfl) ?_
          refine g_iload_n G dX0_ask_88 rfl (lv_at hl 1 rfl) ?_
          obtain ⟨b7, hf⟩ := ckc_open hf
          obtain ⟨r5, h14, g18, hf⟩ := bnd_open hf
          refine p_callV_r (ci := 0) (As := [.int a1]) (rest := [.int 0, .ref p4]) X hM hl rfl b7 pcy_X0_calmOf q1294 q1296 qs40 (kX0_calmOf g18) rfl (Nat.le_of_ble_eq_true rfl) (Nat.le_of_ble_eq_true rfl) rfl dX0_ask_89 (fun H locs hM => ?_)
          refine g_i2l (v := Int32.toInt64 r5) G dX0_ask_92 rfl ?_
          obtain ⟨h15, g19, hf⟩ := bnv_open hf
          refine p_last X hM g19 dX0_ask_93 (fun H locs hM => ?_)
          refine g_aload_n G dX0_ask_94 rfl (lv_at hl 0 rfl) ?_
          obtain ⟨p5, g20, hf⟩ := vA_open hf
          refine p_get (k := 7) X hM pc_0 (by decide) q455 rfl g20 dX0_ask_95 ?_
          obtain ⟨p6, g21, hf⟩ := vA_open hf
          refine p_getN (k := 0) X hM pc_4 (by decide) q383 rfl g21 dX0_ask_98 ?_
          refine g_iconst (v := 1) G dX0_ask_101 rfl ?_
          refine g_aload_n G dX0_ask_102 rfl (lv_at hl 0 rfl) ?_
          refine g_aload_n G dX0_ask_103 rfl (lv_at hl 0 rfl) ?_
          obtain ⟨v4, g22, hf⟩ := vI_open hf
          refine p_get (k := 18) X hM pc_0 (by decide) q466 rfl g22 dX0_ask_104 ?_
          refine g_iconst (v := 1) G dX0_ask_107 rfl ?_
          obtain ⟨b8, hf⟩ := ckc_open hf
          obtain ⟨r6, h16, g23, hf⟩ := bnd_open hf
          refine p_callV_r (ci := 0) (As := [.int v4, .int 1]) (rest := [.int 1, .ref p6]) X hM hl rfl b8 pcy_X0_standing q1277 q1279 qs38 (kX0_standing g23) rfl (Nat.le_of_ble_eq_true rfl) (Nat.le_of_ble_eq_true rfl) rfl dX0_ask_108 (fun H locs hM => ?_)
          refine g_i2l (v := Int32.toInt64 r6) G dX0_ask_111 rfl ?_
          obtain ⟨h17, g24, hf⟩ := bnv_open hf
          refine p_last X hM g24 dX0_ask_112 (fun H locs hM => ?_)
          refine g_aload_n G dX0_ask_113 rfl (lv_at hl 0 rfl) ?_
          obtain ⟨p7, g25, hf⟩ := vA_open hf
          refine p_get (k := 7) X hM pc_0 (by decide) q455 rfl g25 dX0_ask_114 ?_
          obtain ⟨p8, g26, hf⟩ := vA_open hf
          refine p_getN (k := 0) X hM pc_4 (by decide) q383 rfl g26 dX0_ask_117 ?_
          refine g_iconst (v := 2) G dX0_ask_120 rfl ?_
          refine g_aload_n G dX0_ask_121 rfl (lv_at hl 0 rfl) ?_
          refine g_aload_n G dX0_ask_122 rfl (lv_at hl 0 rfl) ?_
          obtain ⟨v5, g27, hf⟩ := vI_open hf
          refine p_get (k := 18) X hM pc_0 (by decide) q466 rfl g27 dX0_ask_123 ?_
          refine g_iconst (v := 2) G dX0_ask_126 rfl ?_
          obtain ⟨b9, hf⟩ := ckc_open hf
          obtain ⟨r7, h18, g28, hf⟩ := bnd_open hf
          refine p_callV_r (ci := 0) (As := [.int v5, .int 2]) (rest := [.int 2, .ref p8]) X hM hl rfl b9 pcy_X0_standing q1277 q1279 qs38 (kX0_standing g28) rfl (Nat.le_of_ble_eq_true rfl) (Nat.le_of_ble_eq_true rfl) rfl dX0_ask_127 (fun H locs hM => ?_)
          refine g_i2l (v := Int32.toInt64 r7) G dX0_ask_130 rfl ?_
          obtain ⟨h19, g29, hf⟩ := bnv_open hf
          refine p_last X hM g29 dX0_ask_131 (fun H locs hM => ?_)
          refine g_aload_n G dX0_ask_132 rfl (lv_at hl 0 rfl) ?_
          obtain ⟨p9, g30, hf⟩ := vA_open hf
          refine p_get (k := 7) X hM pc_0 (by decide) q455 rfl g30 dX0_ask_133 ?_
          obtain ⟨p10, g31, hf⟩ := vA_open hf
          refine p_getN (k := 0) X hM pc_4 (by decide) q383 rfl g31 dX0_ask_136 ?_
          refine g_iconst (v := 3) G dX0_ask_139 rfl ?_
          refine g_aload_n G dX0_ask_140 rfl (lv_at hl 0 rfl) ?_
          obtain ⟨p11, g32, hf⟩ := vA_open hf
          refine p_get (k := 9) X hM pc_0 (by decide) q457 rfl g32 dX0_ask_141 ?_
          obtain ⟨v6, g33, hf⟩ := vI_open hf
          refine p_getN (k := 0) X hM pc_5 (by decide) q397 rfl g33 dX0_ask_144 ?_
          refine g_i2l (v := Int32.toInt64 v6) G dX0_ask_147 rfl ?_
          obtain ⟨h20, g34, hf⟩ := bnv_open hf
          refine p_last X hM g34 dX0_ask_148 (fun H locs hM => ?_)
          refine g_aload_n G dX0_ask_149 rfl (lv_at hl 0 rfl) ?_
          obtain ⟨p12, g35, hf⟩ := vA_open hf
          refine p_get (k := 7) X hM pc_0 (by decide) q455 rfl g35 dX0_ask_150 ?_
          obtain ⟨p13, g36, hf⟩ := vA_open hf
          refine p_getN (k := 0) X hM pc_4 (by decide) q383 rfl g36 dX0_ask_153 ?_
          refine g_iconst (v := 4) G dX0_ask_156 rfl ?_
          refine g_aload_n G dX0_ask_157 rfl (lv_at hl 0 rfl) ?_
          refine g_aload_n G dX0_ask_158 rfl (lv_at hl 0 rfl) ?_
          obtain ⟨v7, g37, hf⟩ := vI_open hf
          refine p_get (k := 18) X hM pc_0 (by decide) q466 rfl g37 dX0_ask_159 ?_
          obtain ⟨b10, hf⟩ := ckc_open hf
          obtain ⟨r8, h21, g38, hf⟩ := bnd_open hf
          refine p_callV_r (ci := 0) (As := [.int v7]) (rest := [.int 4, .ref p13]) X hM hl rfl b10 pcy_X0_worthOf q1273 q1275 qs37 (kX0_worthOf g38) rfl (Nat.le_of_ble_eq_true rfl) (Nat.le_of_ble_eq_true rfl) rfl dX0_ask_162 (fun H locs hM => ?_)
          refine g_i2l (v := Int32.toInt64 r8) G dX0_ask_165 rfl ?_
          obtain ⟨h22, g39, hf⟩ := bnv_open hf
          refine p_last X hM g39 dX0_ask_166 (fun H locs hM => ?_)
          refine g_aload_n G dX0_ask_167 rfl (lv_at hl 0 rfl) ?_
          obtain ⟨p14, g40, hf⟩ := vA_open hf
          refine p_get (k := 7) X hM pc_0 (by decide) q455 rfl g40 dX0_ask_168 ?_
          obtain ⟨p15, g41, hf⟩ := vA_open hf
          refine p_getN (k := 0) X hM pc_4 (by decide) q383 rfl g41 dX0_ask_171 ?_
          refine g_bipush (v := 7) G dX0_ask_174 rfl ?_
          refine g_aload_n G dX0_ask_176 rfl (lv_at hl 0 rfl) ?_
          obtain ⟨p16, g42, hf⟩ := vA_open hf
          refine p_get (k := 9) X hM pc_0 (by decide) q457 rfl g42 dX0_ask_177 ?_
          obtain ⟨p17, g43, hf⟩ := vA_open hf
          refine p_getN (k := 7) X hM pc_5 (by decide) q411 rfl g43 dX0_ask_180 ?_
          refine g_iload_n G dX0_ask_183 rfl (lv_at hl 1 rfl) ?_
          obtain ⟨v8, g44, hf⟩ := ob_open hf
          refine p_iald X hM g44 dX0_ask_184 ?_
          refine g_i2l (v := Int32.toInt64 v8) G dX0_ask_185 rfl ?_
          obtain ⟨h23, g45, hf⟩ := bnv_open hf
          refine p_last X hM g45 dX0_ask_186 (fun H locs hM => ?_)
          refine g_aload_n G dX0_ask_187 rfl (lv_at hl 0 rfl) ?_
          obtain ⟨p18, g46, hf⟩ := vA_open hf
          refine p_get (k := 7) X hM pc_0 (by decide) q455 rfl g46 dX0_ask_188 ?_
          obtain ⟨p19, g47, hf⟩ := vA_open hf
          refine p_getN (k := 0) X hM pc_4 (by decide) q383 rfl g47 dX0_ask_191 ?_
          refine g_bipush (v := 8) G dX0_ask_194 rfl ?_
          refine g_aload_n G dX0_ask_196 rfl (lv_at hl 0 rfl) ?_
          obtain ⟨p20, g48, hf⟩ := vA_open hf
          refine p_get (k := 9) X hM pc_0 (by decide) q457 rfl g48 dX0_ask_197 ?_
          refine g_iload_n G dX0_ask_200 rfl (lv_at hl 1 rfl) ?_
          obtain ⟨b11, hf⟩ := ckc_open hf
          obtain ⟨r9, h24, g49, hf⟩ := bnd_open hf
          refine p_callV_r (ci := 5) (As := [.int a1]) (rest := [.int 8, .ref p19]) X hM hl rfl b11 pcy_X5_marks q1307 q1308 q1309 (kX5_marks g49) rfl (Nat.le_of_ble_eq_true rfl) (Nat.le_of_ble_eq_true rfl) rfl dX0_ask_201 (fun H locs hM => ?_)
          refine g_i2l (v := Int32.toInt64 r9) G dX0_ask_204 rfl ?_
          obtain ⟨h25, g50, hf⟩ := bnv_open hf
          refine p_last X hM g50 dX0_ask_205 (fun H locs hM => ?_)
          refine g_aload_n G dX0_ask_206 rfl (lv_at hl 0 rfl) ?_
          obtain ⟨p21, g51, hf⟩ := vA_open hf
          refine p_get (k := 7) X hM pc_0 (by decide) q455 rfl g51 dX0_ask_207 ?_
          obtain ⟨p22, g52, hf⟩ := vA_open hf
          refine p_getN (k := 0) X hM pc_4 (by decide) q383 rfl g52 dX0_ask_210 ?_
          refine g_bipush (v := 9) G dX0_ask_213 rfl ?_
          refine g_aload_n G dX0_ask_215 rfl (lv_at hl 0 rfl) ?_
          obtain ⟨v9, g53, hf⟩ := vI_open hf
          refine p_get (k := 18) X hM pc_0 (by decide) q466 rfl g53 dX0_ask_216 ?_
          refine g_i2l (v := Int32.toInt64 v9) G dX0_ask_219 rfl ?_
          obtain ⟨h26, g54, hf⟩ := bnv_open hf
          refine p_last X hM g54 dX0_ask_220 (fun H locs hM => ?_)
          refine g_aload_n G dX0_ask_221 rfl (lv_at hl 0 rfl) ?_
          obtain ⟨p23, g55, hf⟩ := vA_open hf
          refine p_get (k := 7) X hM pc_0 (by decide) q455 rfl g55 dX0_ask_222 ?_
          obtain ⟨p24, g56, hf⟩ := vA_open hf
          refine p_getN (k := 0) X hM pc_4 (by decide) q383 rfl g56 dX0_ask_225 ?_
          refine g_bipush (v := 10) G dX0_ask_228 rfl ?_
          refine g_aload_n G dX0_ask_230 rfl (lv_at hl 0 rfl) ?_
          obtain ⟨p25, g57, hf⟩ := vA_open hf
          refine p_get (k := 9) X hM pc_0 (by decide) q457 rfl g57 dX0_ask_231 ?_
          refine g_iload_n G dX0_ask_234 rfl (lv_at hl 1 rfl) ?_
          refine g_aload_n G dX0_ask_235 rfl (lv_at hl 0 rfl) ?_
          obtain ⟨v10, g58, hf⟩ := vI_open hf
          refine p_get (k := 18) X hM pc_0 (by decide) q466 rfl g58 dX0_ask_236 ?_
          obtain ⟨b12, hf⟩ := ckc_open hf
          obtain ⟨r10, h27, g59, hf⟩ := bnd_open hf
          refine p_callV_r (ci := 5) (As := [.int a1, .int v10]) (rest := [.int 10, .ref p24]) X hM hl rfl b12 pcy_X5_stands q1281 q1282 q1283 (kX5_stands g59) rfl (Nat.le_of_ble_eq_true rfl) (Nat.le_of_ble_eq_true rfl) rfl dX0_ask_239 (fun H locs hM => ?_)
          refine g_iconst (v := 1) G dX0_ask_242 rfl ?_
          obtain ⟨j251, ej251, hf⟩ := jn_open hf
          have J251 : ∀ (x1 : Int64) (h28 : PH) (H : Heap) (locs : List Loc), j251 x1 h28 = some (r, h') → PI D A cap H0 h28 H locs → ∀ ls : Array Slot, lv_has ls 5 [(0, .ref a0), (1, .int a1), (3, .ref p2)] → Z H locs (cx H) (sx H) (F0 m 251 ls [.long x1, .int 10, .ref p24]) := by
            intro x1 h28 H locs hf hM ls hl
            rw [ej251] at hf
            obtain ⟨h29, g60, hf⟩ := bnv_open hf
            refine p_last X hM g60 dX0_ask_251 (fun H locs hM => ?_)
            refine g_aload_n G dX0_ask_252 rfl (lv_at hl 0 rfl) ?_
            obtain ⟨p26, g61, hf⟩ := vA_open hf
            refine p_get (k := 7) X hM pc_0 (by decide) q455 rfl g61 dX0_ask_253 ?_
            obtain ⟨p27, g62, hf⟩ := vA_open hf
            refine p_getN (k := 0) X hM pc_4 (by decide) q383 rfl g62 dX0_ask_256 ?_
            refine g_bipush (v := 11) G dX0_ask_259 rfl ?_
            refine g_aload_n G dX0_ask_261 rfl (lv_at hl 0 rfl) ?_
            obtain ⟨p28, g63, hf⟩ := vA_open hf
            refine p_get (k := 9) X hM pc_0 (by decide) q457 rfl g63 dX0_ask_262 ?_
            refine g_iload_n G dX0_ask_265 rfl (lv_at hl 1 rfl) ?_
            refine g_aload_n G dX0_ask_266 rfl (lv_at hl 0 rfl) ?_
            obtain ⟨v11, g64, hf⟩ := vI_open hf
            refine p_get (k := 18) X hM pc_0 (by decide) q466 rfl g64 dX0_ask_267 ?_
            obtain ⟨b13, hf⟩ := ckc_open hf
            obtain ⟨r11, h30, g65, hf⟩ := bnd_open hf
            refine p_callV_r (ci := 5) (As := [.int a1, .int v11]) (rest := [.int 11, .ref p27]) X hM hl rfl b13 pcy_X5_stands q1281 q1282 q1283 (kX5_stands g65) rfl (Nat.le_of_ble_eq_true rfl) (Nat.le_of_ble_eq_true rfl) rfl dX0_ask_270 (fun H locs hM => ?_)
            refine g_iconst (v := 2) G dX0_ask_273 rfl ?_
            obtain ⟨j282, ej282, hf⟩ := jn_open hf
            have J282 : ∀ (x2 : Int64) (h31 : PH) (H : Heap) (locs : List Loc), j282 x2 h31 = some (r, h') → PI D A cap H0 h31 H locs → ∀ ls : Array Slot, lv_has ls 5 [(0, .ref a0), (1, .int a1), (3, .ref p2)] → Z H locs (cx H) (sx H) (F0 m 282 ls [.long x2, .int 11, .ref p27]) := by
              intro x2 h31 H locs hf hM ls hl
              rw [ej282] at hf
              obtain ⟨h32, g66, hf⟩ := bnv_open hf
              refine p_last X hM g66 dX0_ask_282 (fun H locs hM => ?_)
              refine g_aload_n G dX0_ask_283 rfl (lv_at hl 2 rfl) ?_
              refine g_aload_n G dX0_ask_284 rfl (lv_at hl 0 rfl) ?_
              obtain ⟨v12, g67, hf⟩ := vI_open hf
              refine p_get (k := 18) X hM pc_0 (by decide) q466 rfl g67 dX0_ask_285 ?_
              refine g_aload_n G dX0_ask_288 rfl (lv_at hl 0 rfl) ?_
              obtain ⟨p29, g68, hf⟩ := vA_open hf
              refine p_get (k := 7) X hM pc_0 (by decide) q455 rfl g68 dX0_ask_289 ?_
              obtain ⟨b14, hf⟩ := ckc_open hf
              obtain ⟨h33, g69, hf⟩ := bnv_open hf
              refine p_callV_v (ci := 20) (As := [.int v12, .ref p29]) (rest := []) X hM hl rfl b14 pcy_X20_meets q1579 q1580 q1581 (kX20_meets g69) rfl (Nat.le_of_ble_eq_true rfl) (Nat.le_of_ble_eq_true rfl) rfl dX0_ask_292 (fun H locs hM => ?_)
              refine g_aload_n G dX0_ask_295 rfl (lv_at hl 0 rfl) ?_
              refine g_dup G dX0_ask_296 rfl ?_
              obtain ⟨v13, g70, hf⟩ := vI_open hf
              refine p_get (k := 18) X hM pc_0 (by decide) q466 rfl g70 dX0_ask_297 ?_
              refine g_iconst (v := 1) G dX0_ask_300 rfl ?_
              refine g_iadd G dX0_ask_301 ?_
              obtain ⟨h34, g71, hf⟩ := bnv_open hf
              refine p_put (k := 18) X hM pc_0 (by decide) q466 rfl rfl rfl rfl g71 dX0_ask_302 (fun H locs hM => ?_)
              refine g_goto (tgt := 68) G dX0_ask_305 rfl ?_
              exact ih68 _ _ _ hf hM ls (lv_sub hl [0, 1, 2] rfl)
            refine g_icmp_ne (tgt := 281) G dX0_ask_274 rfl (fun c3 => ?_) (fun c3 => ?_)
            · have hf := it_neg c3 hf
              refine g_lconst (v := 0) G dX0_ask_281 rfl ?_
              exact J282 _ _ _ _ hf hM ls (lv_sub hl [0, 1, 2] rfl)
            · have hf := it_pos c3 hf
              refine g_lconst (v := 1) G dX0_ask_277 rfl ?_
              refine g_goto (tgt := 282) G dX0_ask_278 rfl ?_
              exact J282 _ _ _ _ hf hM ls (lv_sub hl [0, 1, 2] rfl)
          refine g_icmp_ne (tgt := 250) G dX0_ask_243 rfl (fun c4 => ?_) (fun c4 => ?_)
          · have hf := it_neg c4 hf
            refine g_lconst (v := 0) G dX0_ask_250 rfl ?_
            exact J251 _ _ _ _ hf hM ls (lv_sub hl [0, 1, 2] rfl)
          · have hf := it_pos c4 hf
            refine g_lconst (v := 1) G dX0_ask_246 rfl ?_
            refine g_goto (tgt := 251) G dX0_ask_247 rfl ?_
            exact J251 _ _ _ _ hf hM ls (lv_sub hl [0, 1, 2] rfl)
    exact L68 FU _ _ _ hf hM ls (lv_sub hl [2, 3, 0] rfl)
  · have hf := it_pos c1 hf
    refine g_ldc2 G q1313 dX0_ask_13 ?_
    exact p_lret X hM hf dX0_ask_16
