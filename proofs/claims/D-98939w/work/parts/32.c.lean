/-! PART 32.c (printed by dc.py, mkc.py) -/
set_option maxRecDepth 100000
theorem pcy_X20_meets : pcY yX20_meets cX20_meets 5 none 2 := ⟨q1582, q183, ⟨by decide +kernel, by decide +kernel, by decide +kernel⟩, Nat.le_of_ble_eq_true rfl⟩
noncomputable def fX20_meets (D : PD) (a0 : Nat) (a1 : Int32) (a2 : Nat) (h : PH) : Option (PH) :=
  vI (pF h a0 20 0) fun v1 =>
  if (3 : Int32) ≤ v1 then
    vQ (pF h a0 20 2) fun q1 =>
    qS q1 fun n1 =>
    bnd (vAt D 64 n1 a2 h) fun r1 h1 =>
    vZ (pF h1 a0 20 4) fun t1 =>
    jn (fun (x1 : Int64) (h2 : PH) =>
      bnv (pPut h2 a0 20 3 (.long x1)) fun h3 =>
      bnv (pPut h3 a0 20 4 (.int (bI true))) fun h4 =>
      some h4) fun j139 =>
    if (bI t1) = 0 then
      j139 r1 h1
    else
      vI (pF h1 a0 20 0) fun v2 =>
      if v2 = (3 : Int32) then
        vJ (pF h1 a0 20 3) fun v6 =>
        j139 (v6 + r1) h1
      else
        vI (pF h1 a0 20 0) fun v3 =>
        if v3 = (4 : Int32) then
          vJ (pF h1 a0 20 3) fun v5 =>
          bnd (fJ12_max_2 v5 r1 h1) fun r3 h6 =>
          j139 r3 h6
        else
          vJ (pF h1 a0 20 3) fun v4 =>
          bnd (fJ12_min_2 v4 r1 h1) fun r2 h5 =>
          j139 r2 h5
  else
    vQ (pF h a0 20 1) fun q2 =>
    qS q2 fun n2 =>
    bnd (vHolds D 64 n2 a2 h) fun r4 h7 =>
    if (bI r4) = 0 then
      some h7
    else
      vI (pF h7 a0 20 0) fun v7 =>
      jn (fun (x2 : Int64) (h8 : PH) =>
        bnv (pPut h8 a0 20 3 (.long x2)) fun h9 =>
        bnv (pPut h9 a0 20 4 (.int (bI true))) fun h10 =>
        some h10) fun j65 =>
      if v7 = (2 : Int32) then
        vJ (pF h7 a0 20 3) fun v10 =>
        bnd (fJ12_max_2 0 v10 h7) fun r5 h12 =>
        j65 (r5 + 1) h12
      else
        vI (pF h7 a0 20 0) fun v8 =>
        jn (fun (h11 : PH) =>
          j65 (Int32.toInt64 a1) h11) fun j63 =>
        if v8 = 0 then
          vZ (pF h7 a0 20 4) fun t2 =>
          if (bI t2) = 0 then
            j63 h7
          else
            vJ (pF h7 a0 20 3) fun v9 =>
            j65 v9 h7
        else
          j63 h7
set_option maxHeartbeats 1000000 in
theorem kX20_meets {l : Launch} {D : PD} {A : Nat → Prop} {cap : Nat × Nat} {a0 : Nat} {a1 : Int32} {a2 : Nat} {h h' : PH} (hf : fX20_meets D a0 a1 a2 h = some h') : CMet l D A cap yX20_meets cX20_meets 5 none 95 [.ref a0, .int a1, .ref a2] h h' (none) := by
  unfold fX20_meets at hf
  refine p_head (own := RX20) (ini := false) (pn_X20 rfl) rfl (fun q => by cases q) (Nat.le_of_ble_eq_true rfl) (fun m Z cx sx H0 ls X hM hl => ?_)
  have G := X.g
  have hl : lv_has ls 5 [(0, .ref a0), (1, .int a1), (2, .ref a2)] := hl
  refine g_aload_n G dX20_meets_0 rfl (lv_at hl 0 rfl) ?_
  obtain ⟨v1, g1, hf⟩ := vI_open hf
  refine p_get (k := 0) X hM pc_20 (by decide) q1563 rfl g1 dX20_meets_1 ?_
  refine g_iconst (v := 3) G dX20_meets_4 rfl ?_
  refine g_icmp_ge (tgt := 74) G dX20_meets_5 rfl (fun c1 => ?_) (fun c1 => ?_)
  · have hf := it_pos c1 hf
    refine g_aload_n G dX20_meets_74 rfl (lv_at hl 0 rfl) ?_
    obtain ⟨q1, g2, hf⟩ := vQ_open hf
    refine p_get (k := 2) X hM pc_20 (by decide) q1565 rfl g2 dX20_meets_75 ?_
    refine g_aload_n G dX20_meets_78 rfl (lv_at hl 2 rfl) ?_
    obtain ⟨n1, e1, hfq⟩ := qS_open hf
    clear hf; subst e1; have hf := hfq; clear hfq
    obtain ⟨r1, h1, g3, hf⟩ := bnd_open hf
    refine p_callVA (rest := []) X hM hl q1585 (ok_vAt 64 _ _ _ _ _ g3) (by decide) (Nat.le_of_ble_eq_true rfl) dX20_meets_79 (fun H locs hM => ?_)
    refine g_lstore_n (i := 3) (lv' := [(3, .long r1), (0, .ref a0), (1, .int a1), (2, .ref a2)]) G dX20_meets_82 rfl hl (Nat.le_of_ble_eq_true rfl) rfl (fun ls hl => ?_)
    refine g_aload_n G dX20_meets_83 rfl (lv_at hl 1 rfl) ?_
    refine g_aload_n G dX20_meets_84 rfl (lv_at hl 1 rfl) ?_
    obtain ⟨t1, g4, hf⟩ := vZ_open hf
    refine p_get (k := 4) X hM pc_20 (by decide) q1567 rfl g4 dX20_meets_85 ?_
    obtain ⟨j139, ej139, hf⟩ := jn_open hf
    have J139 : ∀ (x1 : Int64) (h2 : PH) (H : Heap) (locs : List Loc), j139 x1 h2 = some h' → PI D A cap H0 h2 H locs → ∀ ls : Array Slot, lv_has ls 5 [(0, .ref a0)] → Z H locs (cx H) (sx H) (F0 m 139 ls [.long x1, .ref a0]) := by
      intro x1 h2 H locs hf hM ls hl
      rw [ej139] at hf
      obtain ⟨h3, g5, hf⟩ := bnv_open hf
      refine p_put (k := 3) X hM pc_20 (by decide) q1566 rfl rfl rfl rfl g5 dX20_meets_139 (fun H locs hM => ?_)
      refine g_aload_n G dX20_meets_142 rfl (lv_at hl 0 rfl) ?_
      refine g_iconst (v := 1) G dX20_meets_143 rfl ?_
      obtain ⟨h4, g6, hf⟩ := bnv_open hf
      refine p_put (k := 4) X hM pc_20 (by decide) q1567 rfl rfl (bI_nar true) (bI_fit true) g6 dX20_meets_144 (fun H locs hM => ?_)
      exact p_vret X hM hf dX20_meets_147
    refine g_if_ne (tgt := 95) G dX20_meets_88 rfl (fun c2 => ?_) (fun c2 => ?_)
    · have hf := it_neg c2 hf
      refine g_aload_n G dX20_meets_95 rfl (lv_at hl 1 rfl) ?_
      obtain ⟨v2, g7, hf⟩ := vI_open hf
      refine p_get (k := 0) X hM pc_20 (by decide) q1563 rfl g7 dX20_meets_96 ?_
      refine g_iconst (v := 3) G dX20_meets_99 rfl ?_
      refine g_icmp_ne (tgt := 112) G dX20_meets_100 rfl (fun c3 => ?_) (fun c3 => ?_)
      · have hf := it_neg c3 hf
        refine g_aload_n G dX20_meets_112 rfl (lv_at hl 1 rfl) ?_
        obtain ⟨v3, g8, hf⟩ := vI_open hf
        refine p_get (k := 0) X hM pc_20 (by decide) q1563 rfl g8 dX20_meets_113 ?_
        refine g_iconst (v := 4) G dX20_meets_116 rfl ?_
        refine g_icmp_ne (tgt := 131) G dX20_meets_117 rfl (fun c4 => ?_) (fun c4 => ?_)
        · have hf := it_neg c4 hf
          refine g_aload_n G dX20_meets_131 rfl (lv_at hl 1 rfl) ?_
          obtain ⟨v4, g9, hf⟩ := vJ_open hf
          refine p_get (k := 3) X hM pc_20 (by decide) q1566 rfl g9 dX20_meets_132 ?_
          refine g_lload_n G dX20_meets_135 rfl (lv_at hl 0 rfl) ?_
          obtain ⟨r2, h5, g10, hf⟩ := bnd_open hf
          refine p_callS_r (As := [.long v4, .long r1]) (rest := [.ref a0]) X hM hl pcy_J12_min_2 q1586 q1361 (kJ12_min_2 g10) rfl (Nat.le_of_ble_eq_true rfl) (Nat.le_of_ble_eq_true rfl) rfl dX20_meets_136 (fun H locs hM => ?_)
          exact J139 _ _ _ _ hf hM ls (lv_sub hl [1] rfl)
        · have hf := it_pos c4 hf
          refine g_aload_n G dX20_meets_120 rfl (lv_at hl 1 rfl) ?_
          obtain ⟨v5, g11, hf⟩ := vJ_open hf
          refine p_get (k := 3) X hM pc_20 (by decide) q1566 rfl g11 dX20_meets_121 ?_
          refine g_lload_n G dX20_meets_124 rfl (lv_at hl 0 rfl) ?_
          obtain ⟨r3, h6, g12, hf⟩ := bnd_open hf
          refine p_callS_r (As := [.long v5, .long r1]) (rest := [.ref a0]) X hM hl pcy_J12_max_2 q1584 q1364 (kJ12_max_2 g12) rfl (Nat.le_of_ble_eq_true rfl) (Nat.le_of_ble_eq_true rfl) rfl dX20_meets_125 (fun H locs hM => ?_)
          refine g_goto (tgt := 139) G dX20_meets_128 rfl ?_
          exact J139 _ _ _ _ hf hM ls (lv_sub hl [1] rfl)
      · have hf := it_pos c3 hf
        refine g_aload_n G dX20_meets_103 rfl (lv_at hl 1 rfl) ?_
        obtain ⟨v6, g13, hf⟩ := vJ_open hf
        refine p_get (k := 3) X hM pc_20 (by decide) q1566 rfl g13 dX20_meets_104 ?_
        refine g_lload_n G dX20_meets_107 rfl (lv_at hl 0 rfl) ?_
        refine g_ladd G dX20_meets_108 ?_
        refine g_goto (tgt := 139) G dX20_meets_109 rfl ?_
        exact J139 _ _ _ _ hf hM ls (lv_sub hl [1] rfl)
    · have hf := it_pos c2 hf
      refine g_lload_n G dX20_meets_91 rfl (lv_at hl 0 rfl) ?_
      refine g_goto (tgt := 139) G dX20_meets_92 rfl ?_
      exact J139 _ _ _ _ hf hM ls (lv_sub hl [1] rfl)
  · have hf := it_neg c1 hf
    refine g_aload_n G dX20_meets_8 rfl (lv_at hl 0 rfl) ?_
    obtain ⟨q2, g14, hf⟩ := vQ_open hf
    refine p_get (k := 1) X hM pc_20 (by decide) q1564 rfl g14 dX20_meets_9 ?_
    refine g_aload_n G dX20_meets_12 rfl (lv_at hl 2 rfl) ?_
    obtain ⟨n2, e2, hfq⟩ := qS_open hf
    clear hf; subst e2; have hf := hfq; clear hfq
    obtain ⟨r4, h7, g15, hf⟩ := bnd_open hf
    refine p_callVT (rest := []) X hM hl q1583 (ok_vHolds 64 _ _ _ _ _ g15) (by decide) (Nat.le_of_ble_eq_true rfl) dX20_meets_13 (fun H locs hM => ?_)
    refine g_if_ne (tgt := 20) G dX20_meets_16 rfl (fun c5 => ?_) (fun c5 => ?_)
    · have hf := it_neg c5 hf
      refine g_aload_n G dX20_meets_20 rfl (lv_at hl 0 rfl) ?_
      refine g_aload_n G dX20_meets_21 rfl (lv_at hl 0 rfl) ?_
      obtain ⟨v7, g16, hf⟩ := vI_open hf
      refine p_get (k := 0) X hM pc_20 (by decide) q1563 rfl g16 dX20_meets_22 ?_
      refine g_iconst (v := 2) G dX20_meets_25 rfl ?_
      obtain ⟨j65, ej65, hf⟩ := jn_open hf
      have J65 : ∀ (x2 : Int64) (h8 : PH) (H : Heap) (locs : List Loc), j65 x2 h8 = some h' → PI D A cap H0 h8 H locs → ∀ ls : Array Slot, lv_has ls 5 [(0, .ref a0)] → Z H locs (cx H) (sx H) (F0 m 65 ls [.long x2, .ref a0]) := by
        intro x2 h8 H locs hf hM ls hl
        rw [ej65] at hf
        obtain ⟨h9, g17, hf⟩ := bnv_open hf
        refine p_put (k := 3) X hM pc_20 (by decide) q1566 rfl rfl rfl rfl g17 dX20_meets_65 (fun H locs hM => ?_)
        refine g_aload_n G dX20_meets_68 rfl (lv_at hl 0 rfl) ?_
        refine g_iconst (v := 1) G dX20_meets_69 rfl ?_
        obtain ⟨h10, g18, hf⟩ := bnv_open hf
        refine p_put (k := 4) X hM pc_20 (by decide) q1567 rfl rfl (bI_nar true) (bI_fit true) g18 dX20_meets_70 (fun H locs hM => ?_)
        exact p_vret X hM hf dX20_meets_73
      refine g_icmp_ne (tgt := 42) G dX20_meets_26 rfl (fun c6 => ?_) (fun c6 => ?_)
      · have hf := it_neg c6 hf
        refine g_aload_n G dX20_meets_42 rfl (lv_at hl 0 rfl) ?_
        obtain ⟨v8, g19, hf⟩ := vI_open hf
        refine p_get (k := 0) X hM pc_20 (by decide) q1563 rfl g19 dX20_meets_43 ?_
        obtain ⟨j63, ej63, hf⟩ := jn_open hf
        have J63 : ∀ (h11 : PH) (H : Heap) (locs : List Loc), j63 h11 = some h' → PI D A cap H0 h11 H locs → ∀ ls : Array Slot, lv_has ls 5 [(0, .ref a0), (1, .int a1)] → Z H locs (cx H) (sx H) (F0 m 63 ls [.ref a0]) := by
          intro h11 H locs hf hM ls hl
          rw [ej63] at hf
          refine g_iload_n G dX20_meets_63 rfl (lv_at hl 1 rfl) ?_
          refine g_i2l (v := Int32.toInt64 a1) G dX20_meets_64 rfl ?_
          exact J65 _ _ _ _ hf hM ls (lv_sub hl [0] rfl)
        refine g_if_ne (tgt := 63) G dX20_meets_46 rfl (fun c7 => ?_) (fun c7 => ?_)
        · have hf := it_neg c7 hf
          exact J63 _ _ _ hf hM ls (lv_sub hl [0, 1] rfl)
        · have hf := it_pos c7 hf
          refine g_aload_n G dX20_meets_49 rfl (lv_at hl 0 rfl) ?_
          obtain ⟨t2, g20, hf⟩ := vZ_open hf
          refine p_get (k := 4) X hM pc_20 (by decide) q1567 rfl g20 dX20_meets_50 ?_
          refine g_if_eq (tgt := 63) G dX20_meets_53 rfl (fun c8 => ?_) (fun c8 => ?_)
          · have hf := it_pos c8 hf
            exact J63 _ _ _ hf hM ls (lv_sub hl [0, 1] rfl)
          · have hf := it_neg c8 hf
            refine g_aload_n G dX20_meets_56 rfl (lv_at hl 0 rfl) ?_
            obtain ⟨v9, g21, hf⟩ := vJ_open hf
            refine p_get (k := 3) X hM pc_20 (by decide) q1566 rfl g21 dX20_meets_57 ?_
            refine g_goto (tgt := 65) G dX20_meets_60 rfl ?_
            exact J65 _ _ _ _ hf hM ls (lv_sub hl [0] rfl)
      · have hf := it_pos c6 hf
        refine g_lconst (v := 0) G dX20_meets_29 rfl ?_
        refine g_aload_n G dX20_meets_30 rfl (lv_at hl 0 rfl) ?_
        obtain ⟨v10, g22, hf⟩ := vJ_open hf
        refine p_get (k := 3) X hM pc_20 (by decide) q1566 rfl g22 dX20_meets_31 ?_
        obtain ⟨r5, h12, g23, hf⟩ := bnd_open hf
        refine p_callS_r (As := [.long 0, .long v10]) (rest := [.ref a0]) X hM hl pcy_J12_max_2 q1584 q1364 (kJ12_max_2 g23) rfl (Nat.le_of_ble_eq_true rfl) (Nat.le_of_ble_eq_true rfl) rfl dX20_meets_34 (fun H locs hM => ?_)
        refine g_lconst (v := 1) G dX20_meets_37 rfl ?_
        refine g_ladd G dX20_meets_38 ?_
        refine g_goto (tgt := 65) G dX20_meets_39 rfl ?_
        exact J65 _ _ _ _ hf hM ls (lv_sub hl [0] rfl)
    · have hf := it_pos c5 hf
      exact p_vret X hM hf dX20_meets_19
theorem pcy_X20_answer : pcY yX20_answer cX20_answer 1 (Option.some Jvm.ClassFile.FieldType.long) 0 := ⟨q1590, q183, ⟨by decide +kernel, by decide +kernel, by decide +kernel⟩, Nat.le_of_ble_eq_true rfl⟩
noncomputable def fX20_answer (a0 : Nat) (h : PH) : Option (Int64 × PH) :=
  vZ (pF h a0 20 4) fun t1 =>
  jn (fun (h1 : PH) =>
    vJ (pF h1 a0 20 3) fun v1 =>
    some (v1, h1)) fun j15 =>
  if (bI t1) = 0 then
    vI (pF h a0 20 0) fun v2 =>
    if (2 : Int32) ≤ v2 then
      some (0, h)
    else
      j15 h
  else
    j15 h
set_option maxHeartbeats 1000000 in
theorem kX20_answer {l : Launch} {D : PD} {A : Nat → Prop} {cap : Nat × Nat} {a0 : Nat} {h h' : PH} {r : Int64} (hf : fX20_answer a0 h = some (r, h')) : CMet l D A cap yX20_answer cX20_answer 1 (Option.some Jvm.ClassFile.FieldType.long) 1 [.ref a0] h h' (some (.long r)) := by
  unfold fX20_answer at hf
  refine p_head (own := RX20) (ini := false) (pn_X20 rfl) rfl (fun q => by cases q) (Nat.le_of_ble_eq_true rfl) (fun m Z cx sx H0 ls X hM hl => ?_)
  have G := X.g
  have hl : lv_has ls 1 [(0, .ref a0)] := hl
  refine g_aload_n G dX20_answer_0 rfl (lv_at hl 0 rfl) ?_
  obtain ⟨t1, g1, hf⟩ := vZ_open hf
  refine p_get (k := 4) X hM pc_20 (by decide) q1567 rfl g1 dX20_answer_1 ?_
  obtain ⟨j15, ej15, hf⟩ := jn_open hf
  have J15 : ∀ (h1 : PH) (H : Heap) (locs : List Loc), j15 h1 = some (r, h') → PI D A cap H0 h1 H locs → ∀ ls : Array Slot, lv_has ls 1 [(0, .ref a0)] → Z H locs (cx H) (sx H) (F0 m 15 ls []) := by
    intro h1 H locs hf hM ls hl
    rw [ej15] at hf
    refine g_aload_n G dX20_answer_15 rfl (lv_at hl 0 rfl) ?_
    obtain ⟨v1, g2, hf⟩ := vJ_open hf
    refine p_get (k := 3) X hM pc_20 (by decide) q1566 rfl g2 dX20_answer_16 ?_
    refine g_goto (tgt := 23) G dX20_answer_19 rfl ?_
    exact p_lret X hM hf dX20_answer_23
  refine g_if_ne (tgt := 15) G dX20_answer_4 rfl (fun c1 => ?_) (fun c1 => ?_)
  · have hf := it_neg c1 hf
    exact J15 _ _ _ hf hM ls (lv_sub hl [0] rfl)
  · have hf := it_pos c1 hf
    refine g_aload_n G dX20_answer_7 rfl (lv_at hl 0 rfl) ?_
    obtain ⟨v2, g3, hf⟩ := vI_open hf
    refine p_get (k := 0) X hM pc_20 (by decide) q1563 rfl g3 dX20_answer_8 ?_
    refine g_iconst (v := 2) G dX20_answer_11 rfl ?_
    refine g_icmp_ge (tgt := 22) G dX20_answer_12 rfl (fun c2 => ?_) (fun c2 => ?_)
    · have hf := it_pos c2 hf
      refine g_lconst (v := 0) G dX20_answer_22 rfl ?_
      exact p_lret X hM hf dX20_answer_23
    · have hf := it_neg c2 hf
      exact J15 _ _ _ hf hM ls (lv_sub hl [0] rfl)
theorem pcy_X5_holds : pcY yX5_holds cX5_holds 4 (Option.some Jvm.ClassFile.FieldType.boolean) 3 := ⟨q1325, q156, ⟨by decide +kernel, by decide +kernel, by decide +kernel⟩, Nat.le_of_ble_eq_true rfl⟩
noncomputable def fX5_holds (D : PD) (a0 : Nat) (a1 : Nat) (a2 : Int32) (a3 : Int32) (h : PH) : Option (Bool × PH) :=
  vA (pF h a0 5 11) fun p1 =>
  vA (pF h p1 0 6) fun p2 =>
  vA (pF h p2 4 0) fun p3 =>
  vA (pF h a0 5 11) fun p4 =>
  ckc (pCls h p4) 0 <|
  bnd (fX0_calmOf p4 a2 h) fun r1 h1 =>
  bnv (pStJ h1 p3 1 0 (Int32.toInt64 r1)) fun h2 =>
  vA (pF h2 a0 5 11) fun p5 =>
  vA (pF h2 p5 0 6) fun p6 =>
  vA (pF h2 p6 4 0) fun p7 =>
  vA (pF h2 a0 5 5) fun p8 =>
  ob (pLd h2 p8 0 a2) fun v1 =>
  bnd (fJ16_bitCount v1 h2) fun r2 h3 =>
  bnv (pStJ h3 p7 1 1 (Int32.toInt64 r2)) fun h4 =>
  vA (pF h4 a0 5 11) fun p9 =>
  vA (pF h4 p9 0 6) fun p10 =>
  vA (pF h4 p10 4 0) fun p11 =>
  vA (pF h4 a0 5 6) fun p12 =>
  ob (pLd h4 p12 0 a2) fun v2 =>
  bnd (fJ16_bitCount v2 h4) fun r3 h5 =>
  bnv (pStJ h5 p11 1 2 (Int32.toInt64 r3)) fun h6 =>
  vA (pF h6 a0 5 11) fun p13 =>
  vA (pF h6 p13 0 6) fun p14 =>
  vA (pF h6 p14 4 0) fun p15 =>
  vI (pF h6 a0 5 0) fun v3 =>
  bnv (pStJ h6 p15 1 3 (Int32.toInt64 v3)) fun h7 =>
  jn (fun (h8 : PH) =>
    vA (pF h8 a0 5 11) fun p16 =>
    vA (pF h8 p16 0 6) fun p17 =>
    bnd (vHolds D 64 a1 p17 h8) fun r4 h9 =>
    some (r4, h9)) fun j203 =>
  if a3 = ((-1) : Int32) then
    vA (pF h7 a0 5 11) fun p18 =>
    vA (pF h7 p18 0 6) fun p19 =>
    vA (pF h7 p19 4 0) fun p20 =>
    vA (pF h7 a0 5 7) fun p21 =>
    ob (pLd h7 p21 0 a2) fun v4 =>
    bnv (pStJ h7 p20 1 7 (Int32.toInt64 v4)) fun h10 =>
    vA (pF h10 a0 5 11) fun p22 =>
    vA (pF h10 p22 0 6) fun p23 =>
    vA (pF h10 p23 4 0) fun p24 =>
    ckc (pCls h10 a0) 5 <|
    bnd (fX5_marks a0 a2 h10) fun r5 h11 =>
    bnv (pStJ h11 p24 1 8 (Int32.toInt64 r5)) fun h12 =>
    j203 h12
  else
    vA (pF h7 a0 5 11) fun p25 =>
    vA (pF h7 p25 0 6) fun p26 =>
    vA (pF h7 p26 4 0) fun p27 =>
    vA (pF h7 a0 5 11) fun p28 =>
    ckc (pCls h7 p28) 0 <|
    bnd (fX0_worthOf p28 a3 h7) fun r6 h13 =>
    bnv (pStJ h13 p27 1 4 (Int32.toInt64 r6)) fun h14 =>
    vA (pF h14 a0 5 11) fun p29 =>
    vA (pF h14 p29 0 6) fun p30 =>
    vA (pF h14 p30 4 0) fun p31 =>
    vA (pF h14 a0 5 4) fun p32 =>
    ob (pLd h14 p32 0 a2) fun v5 =>
    ckc (pCls h14 a0) 5 <|
    bnd (fX5_pupils a0 v5 h14) fun r7 h15 =>
    bnd (fJ16_bitCount r7 h15) fun r8 h16 =>
    bnv (pStJ h16 p31 1 5 (Int32.toInt64 r8)) fun h17 =>
    vA (pF h17 a0 5 11) fun p33 =>
    vA (pF h17 p33 0 6) fun p34 =>
    vA (pF h17 p34 4 0) fun p35 =>
    vA (pF h17 a0 5 11) fun p36 =>
    vA (pF h17 a0 5 4) fun p37 =>
    ob (pLd h17 p37 0 a2) fun v6 =>
    ckc (pCls h17 p36) 0 <|
    bnd (fX0_calmOf p36 v6 h17) fun r9 h18 =>
    bnv (pStJ h18 p35 1 6 (Int32.toInt64 r9)) fun h19 =>
    j203 h19
set_option maxHeartbeats 1000000 in
theorem kX5_holds {l : Launch} {D : PD} {A : Nat → Prop} {cap : Nat × Nat} {a0 : Nat} {a1 : Nat} {a2 : Int32} {a3 : Int32} {h h' : PH} {r : Bool} (hf : fX5_holds D a0 a1 a2 a3 h = some (r, h')) : CMet l D A cap yX5_holds cX5_holds 4 (Option.some Jvm.ClassFile.FieldType.boolean) 95 [.ref a0, .ref a1, .int a2, .int a3] h h' (some (.int (bI r))) := by
  unfold fX5_holds at hf
  refine p_head (own := RX5) (ini := false) (pn_X5 rfl) rfl (fun q => by cases q) (Nat.le_of_ble_eq_true rfl) (fun m Z cx sx H0 ls X hM hl => ?_)
  have G := X.g
  have hl : lv_has ls 4 [(0, .ref a0), (1, .ref a1), (2, .int a2), (3, .int a3)] := hl
  refine g_aload_n G dX5_holds_0 rfl (lv_at hl 0 rfl) ?_
  obtain ⟨p1, g1, hf⟩ := vA_open hf
  refine p_get (k := 11) X hM pc_5 (by decide) q416 rfl g1 dX5_holds_1 ?_
  obtain ⟨p2, g2, hf⟩ := vA_open hf
  refine p_getN (k := 6) X hM pc_0 (by decide) q453 rfl g2 dX5_holds_4 ?_
  obtain ⟨p3, g3, hf⟩ := vA_open hf
  refine p_getN (k := 0) X hM pc_4 (by decide) q382 rfl g3 dX5_holds_7 ?_
  refine g_iconst (v := 0) G dX5_holds_10 rfl ?_
  refine g_aload_n G dX5_holds_11 rfl (lv_at hl 0 rfl) ?_
  obtain ⟨p4, g4, hf⟩ := vA_open hf
  refine p_get (k := 11) X hM pc_5 (by decide) q416 rfl g4 dX5_holds_12 ?_
  refine g_iload_n G dX5_holds_15 rfl (lv_at hl 2 rfl) ?_
  obtain ⟨b1, hf⟩ := ckc_open hf
  obtain ⟨r1, h1, g5, hf⟩ := bnd_open hf
  refine p_callVN_r (ci := 0) (As := [.int a2]) (rest := [.int 0, .ref p3]) X hM hl rfl b1 pcy_X0_calmOf q1326 q1296 qs40 (kX0_calmOf g5) rfl (Nat.le_of_ble_eq_true rfl) (Nat.le_of_ble_eq_true rfl) rfl dX5_holds_16 (fun H locs hM => ?_)
  refine g_i2l (v := Int32.toInt64 r1) G dX5_holds_19 rfl ?_
  obtain ⟨h2, g6, hf⟩ := bnv_open hf
  refine p_last X hM g6 dX5_holds_20 (fun H locs hM => ?_)
  refine g_aload_n G dX5_holds_21 rfl (lv_at hl 0 rfl) ?_
  obtain ⟨p5, g7, hf⟩ := vA_open hf
  refine p_get (k := 11) X hM pc_5 (by decide) q416 rfl g7 dX5_holds_22 ?_
  obtain ⟨p6, g8, hf⟩ := vA_open hf
  refine p_getN (k := 6) X hM pc_0 (by decide) q453 rfl g8 dX5_holds_25 ?_
  obtain ⟨p7, g9, hf⟩ := vA_open hf
  refine p_getN (k := 0) X hM pc_4 (by decide) q382 rfl g9 dX5_holds_28 ?_
  refine g_iconst (v := 1) G dX5_holds_31 rfl ?_
  refine g_aload_n G dX5_holds_32 rfl (lv_at hl 0 rfl) ?_
  obtain ⟨p8, g10, hf⟩ := vA_open hf
  refine p_get (k := 5) X hM pc_5 (by decide) q406 rfl g10 dX5_holds_33 ?_
  refine g_iload_n G dX5_holds_36 rfl (lv_at hl 2 rfl) ?_
  obtain ⟨v1, g11, hf⟩ := ob_open hf
  refine p_iald X hM g11 dX5_holds_37 ?_
  obtain ⟨r2, h3, g12, hf⟩ := bnd_open hf
  refine p_callS_r (As := [.int v1]) (rest := [.int 1, .ref p7]) X hM hl pcy_J16_bitCount q1238 q1229 (kJ16_bitCount g12) rfl (Nat.le_of_ble_eq_true rfl) (Nat.le_of_ble_eq_true rfl) rfl dX5_holds_38 (fun H locs hM => ?_)
  refine g_i2l (v := Int32.toInt64 r2) G dX5_holds_41 rfl ?_
  obtain ⟨h4, g13, hf⟩ := bnv_open hf
  refine p_last X hM g13 dX5_holds_42 (fun H locs hM => ?_)
  refine g_aload_n G dX5_holds_43 rfl (lv_at hl 0 rfl) ?_
  obtain ⟨p9, g14, hf⟩ := vA_open hf
  refine p_get (k := 11) X hM pc_5 (by decide) q416 rfl g14 dX5_holds_44 ?_
  obtain ⟨p10, g15, hf⟩ := vA_open hf
  refine p_getN (k := 6) X hM pc_0 (by decide) q453 rfl g15 dX5_holds_47 ?_
  obtain ⟨p11, g16, hf⟩ := vA_open hf
  refine p_getN (k := 0) X hM pc_4 (by decide) q382 rfl g16 dX5_holds_50 ?_
  refine g_iconst (v := 2) G dX5_holds_53 rfl ?_
  refine g_aload_n G dX5_holds_54 rfl (lv_at hl 0 rfl) ?_
  obtain ⟨p12, g17, hf⟩ := vA_open hf
  refine p_get (k := 6) X hM pc_5 (by decide) q408 rfl g17 dX5_holds_55 ?_
  refine g_iload_n G dX5_holds_58 rfl (lv_at hl 2 rfl) ?_
  obtain ⟨v2, g18, hf⟩ := ob_open hf
  refine p_iald X hM g18 dX5_holds_59 ?_
  obtain ⟨r3, h5, g19, hf⟩ := bnd_open hf
  refine p_callS_r (As := [.int v2]) (rest := [.int 2, .ref p11]) X hM hl pcy_J16_bitCount q1238 q1229 (kJ16_bitCount g19) rfl (Nat.le_of_ble_eq_true rfl) (Nat.le_of_ble_eq_true rfl) rfl dX5_holds_60 (fun H locs hM => ?_)
  refine g_i2l (v := Int32.toInt64 r3) G dX5_holds_63 rfl ?_
  obtain ⟨h6, g20, hf⟩ := bnv_open hf
  refine p_last X hM g20 dX5_holds_64 (fun H locs hM => ?_)
  refine g_aload_n G dX5_holds_65 rfl (lv_at hl 0 rfl) ?_
  obtain ⟨p13, g21, hf⟩ := vA_open hf
  refine p_get (k := 11) X hM pc_5 (by decide) q416 rfl g21 dX5_holds_66 ?_
  obtain ⟨p14, g22, hf⟩ := vA_open hf
  refine p_getN (k := 6) X hM pc_0 (by decide) q453 rfl g22 dX5_holds_69 ?_
  obtain ⟨p15, g23, hf⟩ := vA_open hf
  refine p_getN (k := 0) X hM pc_4 (by decide) q382 rfl g23 dX5_holds_72 ?_
  refine g_iconst (v := 3) G dX5_holds_75 rfl ?_
  refine g_aload_n G dX5_holds_76 rfl (lv_at hl 0 rfl) ?_
  obtain ⟨v3, g24, hf⟩ := vI_open hf
  refine p_get (k := 0) X hM pc_5 (by decide) q396 rfl g24 dX5_holds_77 ?_
  refine g_i2l (v := Int32.toInt64 v3) G dX5_holds_80 rfl ?_
  obtain ⟨h7, g25, hf⟩ := bnv_open hf
  refine p_last X hM g25 dX5_holds_81 (fun H locs hM => ?_)
  refine g_iload_n G dX5_holds_82 rfl (lv_at hl 3 rfl) ?_
  refine g_iconst (v := (-1)) G dX5_holds_83 rfl ?_
  obtain ⟨j203, ej203, hf⟩ := jn_open hf
  have J203 : ∀ (h8 : PH) (H : Heap) (locs : List Loc), j203 h8 = some (r, h') → PI D A cap H0 h8 H locs → ∀ ls : Array Slot, lv_has ls 4 [(0, .ref a0), (1, .ref a1)] → Z H locs (cx H) (sx H) (F0 m 203 ls []) := by
    intro h8 H locs hf hM ls hl
    rw [ej203] at hf
    refine g_aload_n G dX5_holds_203 rfl (lv_at hl 1 rfl) ?_
    refine g_aload_n G dX5_holds_204 rfl (lv_at hl 0 rfl) ?_
    obtain ⟨p16, g26, hf⟩ := vA_open hf
    refine p_get (k := 11) X hM pc_5 (by decide) q416 rfl g26 dX5_holds_205 ?_
    obtain ⟨p17, g27, hf⟩ := vA_open hf
    refine p_getN (k := 6) X hM pc_0 (by decide) q453 rfl g27 dX5_holds_208 ?_
    obtain ⟨r4, h9, g28, hf⟩ := bnd_open hf
    refine p_callVT (rest := []) X hM hl q1329 (ok_vHolds 64 _ _ _ _ _ g28) (by decide) (Nat.le_of_ble_eq_true rfl) dX5_holds_211 (fun H locs hM => ?_)
    exact p_zret X hM hf dX5_holds_214
  refine g_icmp_eq (tgt := 164) G dX5_holds_84 rfl (fun c1 => ?_) (fun c1 => ?_)
  · have hf := it_pos c1 hf
    refine g_aload_n G dX5_holds_164 rfl (lv_at hl 0 rfl) ?_
    obtain ⟨p18, g29, hf⟩ := vA_open hf
    refine p_get (k := 11) X hM pc_5 (by decide) q416 rfl g29 dX5_holds_165 ?_
    obtain ⟨p19, g30, hf⟩ := vA_open hf
    refine p_getN (k := 6) X hM pc_0 (by decide) q453 rfl g30 dX5_holds_168 ?_
    obtain ⟨p20, g31, hf⟩ := vA_open hf
    refine p_getN (k := 0) X hM pc_4 (by decide) q382 rfl g31 dX5_holds_171 ?_
    refine g_bipush (v := 7) G dX5_holds_174 rfl ?_
    refine g_aload_n G dX5_holds_176 rfl (lv_at hl 0 rfl) ?_
    obtain ⟨p21, g32, hf⟩ := vA_open hf
    refine p_get (k := 7) X hM pc_5 (by decide) q410 rfl g32 dX5_holds_177 ?_
    refine g_iload_n G dX5_holds_180 rfl (lv_at hl 2 rfl) ?_
    obtain ⟨v4, g33, hf⟩ := ob_open hf
    refine p_iald X hM g33 dX5_holds_181 ?_
    refine g_i2l (v := Int32.toInt64 v4) G dX5_holds_182 rfl ?_
    obtain ⟨h10, g34, hf⟩ := bnv_open hf
    refine p_last X hM g34 dX5_holds_183 (fun H locs hM => ?_)
    refine g_aload_n G dX5_holds_184 rfl (lv_at hl 0 rfl) ?_
    obtain ⟨p22, g35, hf⟩ := vA_open hf
    refine p_get (k := 11) X hM pc_5 (by decide) q416 rfl g35 dX5_holds_185 ?_
    obtain ⟨p23, g36, hf⟩ := vA_open hf
    refine p_getN (k := 6) X hM pc_0 (by decide) q453 rfl g36 dX5_holds_188 ?_
    obtain ⟨p24, g37, hf⟩ := vA_open hf
    refine p_getN (k := 0) X hM pc_4 (by decide) q382 rfl g37 dX5_holds_191 ?_
    refine g_bipush (v := 8) G dX5_holds_194 rfl ?_
    refine g_aload_n G dX5_holds_196 rfl (lv_at hl 0 rfl) ?_
    refine g_iload_n G dX5_holds_197 rfl (lv_at hl 2 rfl) ?_
    obtain ⟨b2, hf⟩ := ckc_open hf
    obtain ⟨r5, h11, g38, hf⟩ := bnd_open hf
    refine p_callV_r (ci := 5) (As := [.int a2]) (rest := [.int 8, .ref p24]) X hM hl rfl b2 pcy_X5_marks q1328 q1308 q1309 (kX5_marks g38) rfl (Nat.le_of_ble_eq_true rfl) (Nat.le_of_ble_eq_true rfl) rfl dX5_holds_198 (fun H locs hM => ?_)
    refine g_i2l (v := Int32.toInt64 r5) G dX5_holds_201 rfl ?_
    obtain ⟨h12, g39, hf⟩ := bnv_open hf
    refine p_last X hM g39 dX5_holds_202 (fun H locs hM => ?_)
    exact J203 _ _ _ hf hM ls (lv_sub hl [0, 1] rfl)
  · have hf := it_neg c1 hf
    refine g_aload_n G dX5_holds_87 rfl (lv_at hl 0 rfl) ?_
    obtain ⟨p25, g40, hf⟩ := vA_open hf
    refine p_get (k := 11) X hM pc_5 (by decide) q416 rfl g40 dX5_holds_88 ?_
    obtain ⟨p26, g41, hf⟩ := vA_open hf
    refine p_getN (k := 6) X hM pc_0 (by decide) q453 rfl g41 dX5_holds_91 ?_
    obtain ⟨p27, g42, hf⟩ := vA_open hf
    refine p_getN (k := 0) X hM pc_4 (by decide) q382 rfl g42 dX5_holds_94 ?_
    refine g_iconst (v := 4) G dX5_holds_97 rfl ?_
    refine g_aload_n G dX5_holds_98 rfl (lv_at hl 0 rfl) ?_
    obtain ⟨p28, g43, hf⟩ := vA_open hf
    refine p_get (k := 11) X hM pc_5 (by decide) q416 rfl g43 dX5_holds_99 ?_
    refine g_iload_n G dX5_holds_102 rfl (lv_at hl 3 rfl) ?_
    obtain ⟨b3, hf⟩ := ckc_open hf
    obtain ⟨r6, h13, g44, hf⟩ := bnd_open hf
    refine p_callVN_r (ci := 0) (As := [.int a3]) (rest := [.int 4, .ref p27]) X hM hl rfl b3 pcy_X0_worthOf q1312 q1275 qs37 (kX0_worthOf g44) rfl (Nat.le_of_ble_eq_true rfl) (Nat.le_of_ble_eq_true rfl) rfl dX5_holds_103 (fun H locs hM => ?_)
    refine g_i2l (v := Int32.toInt64 r6) G dX5_holds_106 rfl ?_
    obtain ⟨h14, g45, hf⟩ := bnv_open hf
    refine p_last X hM g45 dX5_holds_107 (fun H locs hM => ?_)
    refine g_aload_n G dX5_holds_108 rfl (lv_at hl 0 rfl) ?_
    obtain ⟨p29, g46, hf⟩ := vA_open hf
    refine p_get (k := 11) X hM pc_5 (by decide) q416 rfl g46 dX5_holds_109 ?_
    obtain ⟨p30, g47, hf⟩ := vA_open hf
    refine p_getN (k := 6) X hM pc_0 (by decide) q453 rfl g47 dX5_holds_112 ?_
    obtain ⟨p31, g48, hf⟩ := vA_open hf
    refine p_getN (k := 0) X hM pc_4 (by decide) q382 rfl g48 dX5_holds_115 ?_
    refine g_iconst (v := 5) G dX5_holds_118 rfl ?_
    refine g_aload_n G dX5_holds_119 rfl (lv_at hl 0 rfl) ?_
    refine g_aload_n G dX5_holds_120 rfl (lv_at hl 0 rfl) ?_
    obtain ⟨p32, g49, hf⟩ := vA_open hf
    refine p_get (k := 4) X hM pc_5 (by decide) q404 rfl g49 dX5_holds_121 ?_
    refine g_iload_n G dX5_holds_124 rfl (lv_at hl 2 rfl) ?_
    obtain ⟨v5, g50, hf⟩ := ob_open hf
    refine p_iald X hM g50 dX5_holds_125 ?_
    obtain ⟨b4, hf⟩ := ckc_open hf
    obtain ⟨r7, h15, g51, hf⟩ := bnd_open hf
    refine p_callV_r (ci := 5) (As := [.int v5]) (rest := [.int 5, .ref p31]) X hM hl rfl b4 pcy_X5_pupils q1327 q1299 q1300 (kX5_pupils g51) rfl (Nat.le_of_ble_eq_true rfl) (Nat.le_of_ble_eq_true rfl) rfl dX5_holds_126 (fun H locs hM => ?_)
    obtain ⟨r8, h16, g52, hf⟩ := bnd_open hf
    refine p_callS_r (As := [.int r7]) (rest := [.int 5, .ref p31]) X hM hl pcy_J16_bitCount q1238 q1229 (kJ16_bitCount g52) rfl (Nat.le_of_ble_eq_true rfl) (Nat.le_of_ble_eq_true rfl) rfl dX5_holds_129 (fun H locs hM => ?_)
    refine g_i2l (v := Int32.toInt64 r8) G dX5_holds_132 rfl ?_
    obtain ⟨h17, g53, hf⟩ := bnv_open hf
    refine p_last X hM g53 dX5_holds_133 (fun H locs hM => ?_)
    refine g_aload_n G dX5_holds_134 rfl (lv_at hl 0 rfl) ?_
    obtain ⟨p33, g54, hf⟩ := vA_open hf
    refine p_get (k := 11) X hM pc_5 (by decide) q416 rfl g54 dX5_holds_135 ?_
    obtain ⟨p34, g55, hf⟩ := vA_open hf
    refine p_getN (k := 6) X hM pc_0 (by decide) q453 rfl g55 dX5_holds_138 ?_
    obtain ⟨p35, g56, hf⟩ := vA_open hf
    refine p_getN (k := 0) X hM pc_4 (by decide) q382 rfl g56 dX5_holds_141 ?_
    refine g_bipush (v := 6) G dX5_holds_144 rfl ?_
    refine g_aload_n G dX5_holds_146 rfl (lv_at hl 0 rfl) ?_
    obtain ⟨p36, g57, hf⟩ := vA_open hf
    refine p_get (k := 11) X hM pc_5 (by decide) q416 rfl g57 dX5_holds_147 ?_
    refine g_aload_n G dX5_holds_150 rfl (lv_at hl 0 rfl) ?_
    obtain ⟨p37, g58, hf⟩ := vA_open hf
    refine p_get (k := 4) X hM pc_5 (by decide) q404 rfl g58 dX5_holds_151 ?_
    refine g_iload_n G dX5_holds_154 rfl (lv_at hl 2 rfl) ?_
    obtain ⟨v6, g59, hf⟩ := ob_open hf
    refine p_iald X hM g59 dX5_holds_155 ?_
    obtain ⟨b5, hf⟩ := ckc_open hf
    obtain ⟨r9, h18, g60, hf⟩ := bnd_open hf
    refine p_callVN_r (ci := 0) (As := [.int v6]) (rest := [.int 6, .ref p35]) X hM hl rfl b5 pcy_X0_calmOf q1326 q1296 qs40 (kX0_calmOf g60) rfl (Nat.le_of_ble_eq_true rfl) (Nat.le_of_ble_eq_true rfl) rfl dX5_holds_156 (fun H locs hM => ?_)
    refine g_i2l (v := Int32.toInt64 r9) G dX5_holds_159 rfl ?_
    obtain ⟨h19, g61, hf⟩ := bnv_open hf
    refine p_last X hM g61 dX5_holds_160 (fun H locs hM => ?_)
    refine g_goto (tgt := 203) G dX5_holds_161 rfl ?_
    exact J203 _ _ _ hf hM ls (lv_sub hl [0, 1] rfl)
theorem pcy_X5_lesson : pcY yX5_lesson cX5_lesson 5 (Option.some Jvm.ClassFile.FieldType.int) 1 := ⟨q1321, q156, ⟨by decide +kernel, by decide +kernel, by decide +kernel⟩, Nat.le_of_ble_eq_true rfl⟩
noncomputable def fX5_lesson_L21 (D : PD) (a0 : Nat) (a1 : Int32) (v2 : Int32) (s21 : Int32 → PH → Option (Int32 × PH)) (x1 : Int32) (h1 : PH) : Option (Int32 × PH) :=
  vA (pF h1 a0 5 11) fun p3 =>
  ckc (pCls h1 p3) 0 <|
  bnd (fX0_facts p3 h1) fun r1 h2 =>
  if r1 ≤ x1 then
    some ((-1), h2)
  else
    vA (pF h2 a0 5 5) fun p4 =>
    ob (pLd h2 p4 0 a1) fun v3 =>
    bnd (fX0_has v3 x1 h2) fun r2 h3 =>
    jn (fun (x2 : Bool) (h4 : PH) =>
      jn (fun (h5 : PH) =>
        s21 (x1 + 1) h5) fun j130 =>
      if (bI x2) = 0 then
        j130 h4
      else
        vA (pF h4 a0 5 11) fun p5 =>
        vA (pF h4 p5 0 0) fun p6 =>
        vQ (pF h4 p6 1 6) fun q1 =>
        qC q1 (
          some (x1, h4)) fun n1 =>
          vA (pF h4 a0 5 11) fun p7 =>
          vA (pF h4 p7 0 0) fun p8 =>
          vQ (pF h4 p8 1 6) fun q2 =>
          qS q2 fun n2 =>
          ckc (pCls h4 a0) 5 <|
          bnd (fX5_holds D a0 n2 a1 x1 h4) fun r3 h6 =>
          if (bI r3) = 0 then
            j130 h6
          else
            some (x1, h6)) fun j89 =>
    jn (fun (h7 : PH) =>
      j89 false h7) fun j88 =>
    if (bI r2) = 0 then
      vA (pF h3 a0 5 5) fun p9 =>
      ob (pLd h3 p9 0 v2) fun v4 =>
      bnd (fX0_has v4 x1 h3) fun r4 h8 =>
      jn (fun (h9 : PH) =>
        j89 true h9) fun j84 =>
      if (bI r4) = 0 then
        vA (pF h8 a0 5 6) fun p10 =>
        ob (pLd h8 p10 0 v2) fun v5 =>
        bnd (fX0_has v5 x1 h8) fun r5 h10 =>
        if (bI r5) = 0 then
          j88 h10
        else
          vA (pF h10 a0 5 6) fun p11 =>
          ob (pLd h10 p11 0 a1) fun v6 =>
          bnd (fX0_has v6 x1 h10) fun r6 h11 =>
          if (bI r6) = 0 then
            j84 h11
          else
            j88 h11
      else
        j84 h8
    else
      j88 h3
noncomputable def fX5_lesson (D : PD) (a0 : Nat) (a1 : Int32) (h : PH) : Option (Int32 × PH) :=
  vA (pF h a0 5 4) fun p1 =>
  ob (pLd h p1 0 a1) fun v1 =>
  if v1 = ((-1) : Int32) then
    some ((-1), h)
  else
    vA (pF h a0 5 4) fun p2 =>
    ob (pLd h p2 0 a1) fun v2 =>
    fx (fX5_lesson_L21 D a0 a1 v2) (fun _ _ => none) FU 0 h
set_option maxHeartbeats 1000000 in
theorem kX5_lesson {l : Launch} {D : PD} {A : Nat → Prop} {cap : Nat × Nat} {a0 : Nat} {a1 : Int32} {h h' : PH} {r : Int32} (hf : fX5_lesson D a0 a1 h = some (r, h')) : CMet l D A cap yX5_lesson cX5_lesson 5 (Option.some Jvm.ClassFile.FieldType.int) 96 [.ref a0, .int a1] h h' (some (.int r)) := by
  unfold fX5_lesson at hf
  refine p_head (own := RX5) (ini := false) (pn_X5 rfl) rfl (fun q => by cases q) (Nat.le_of_ble_eq_true rfl) (fun m Z cx sx H0 ls X hM hl => ?_)
  have G := X.g
  have hl : lv_has ls 5 [(0, .ref a0), (1, .int a1)] := hl
  refine g_aload_n G dX5_lesson_0 rfl (lv_at hl 0 rfl) ?_
  obtain ⟨p1, g1, hf⟩ := vA_open hf
  refine p_get (k := 4) X hM pc_5 (by decide) q404 rfl g1 dX5_lesson_1 ?_
  refine g_iload_n G dX5_lesson_4 rfl (lv_at hl 1 rfl) ?_
  obtain ⟨v1, g2, hf⟩ := ob_open hf
  refine p_iald X hM g2 dX5_lesson_5 ?_
  refine g_iconst (v := (-1)) G dX5_lesson_6 rfl ?_
  refine g_icmp_ne (tgt := 12) G dX5_lesson_7 rfl (fun c1 => ?_) (fun c1 => ?_)
  · have hf := it_neg c1 hf
    refine g_aload_n G dX5_lesson_12 rfl (lv_at hl 0 rfl) ?_
    obtain ⟨p2, g3, hf⟩ := vA_open hf
    refine p_get (k := 4) X hM pc_5 (by decide) q404 rfl g3 dX5_lesson_13 ?_
    refine g_iload_n G dX5_lesson_16 rfl (lv_at hl 1 rfl) ?_
    obtain ⟨v2, g4, hf⟩ := ob_open hf
    refine p_iald X hM g4 dX5_lesson_17 ?_
    refine g_istore_n (i := 2) (lv' := [(2, .int v2), (0, .ref a0), (1, .int a1)]) G dX5_lesson_18 rfl hl (Nat.le_of_ble_eq_true rfl) rfl (fun ls hl => ?_)
    refine g_iconst (v := 0) G dX5_lesson_19 rfl ?_
    refine g_istore_n (i := 3) (lv' := [(3, .int 0), (2, .int v2), (0, .ref a0), (1, .int a1)]) G dX5_lesson_20 rfl hl (Nat.le_of_ble_eq_true rfl) rfl (fun ls hl => ?_)
    have L21 : ∀ (n : Nat) (x1 : Int32) (h1 : PH) (H : Heap) (locs : List Loc), fx (fX5_lesson_L21 D a0 a1 v2) (fun _ _ => none) n x1 h1 = some (r, h') → PI D A cap H0 h1 H locs → ∀ ls : Array Slot, lv_has ls 5 [(0, .ref a0), (1, .int a1), (2, .int v2), (3, .int x1)] → Z H locs (cx H) (sx H) (F0 m 21 ls []) := by
      intro n
      induction n with
      | zero => intro x1 h1 H locs hf; exact absurd hf (by intro q; cases q)
      | succ n ih21 =>
        intro x1 h1 H locs hf hM ls hl
        rw [fx_s] at hf
        generalize fx (fX5_lesson_L21 D a0 a1 v2) (fun _ _ => none) n = s21 at hf ih21
        unfold fX5_lesson_L21 at hf
        refine g_iload_n G dX5_lesson_21 rfl (lv_at hl 3 rfl) ?_
        refine g_aload_n G dX5_lesson_22 rfl (lv_at hl 0 rfl) ?_
        obtain ⟨p3, g5, hf⟩ := vA_open hf
        refine p_get (k := 11) X hM pc_5 (by decide) q416 rfl g5 dX5_lesson_23 ?_
        obtain ⟨b1, hf⟩ := ckc_open hf
        obtain ⟨r1, h2, g6, hf⟩ := bnd_open hf
        refine p_callVN_r (ci := 0) (As := []) (rest := [.int x1]) X hM hl rfl b1 pcy_X0_facts q1311 q1225 qs35 (kX0_facts g6) rfl (Nat.le_of_ble_eq_true rfl) (Nat.le_of_ble_eq_true rfl) rfl dX5_lesson_26 (fun H locs hM => ?_)
        refine g_icmp_ge (tgt := 136) G dX5_lesson_29 rfl (fun c2 => ?_) (fun c2 => ?_)
        · have hf := it_pos c2 hf
          refine g_iconst (v := (-1)) G dX5_lesson_136 rfl ?_
          exact p_iret X hM hf dX5_lesson_137
        · have hf := it_neg c2 hf
          refine g_aload_n G dX5_lesson_32 rfl (lv_at hl 0 rfl) ?_
          obtain ⟨p4, g7, hf⟩ := vA_open hf
          refine p_get (k := 5) X hM pc_5 (by decide) q406 rfl g7 dX5_lesson_33 ?_
          refine g_iload_n G dX5_lesson_36 rfl (lv_at hl 1 rfl) ?_
          obtain ⟨v3, g8, hf⟩ := ob_open hf
          refine p_iald X hM g8 dX5_lesson_37 ?_
          refine g_iload_n G dX5_lesson_38 rfl (lv_at hl 3 rfl) ?_
          obtain ⟨r2, h3, g9, hf⟩ := bnd_open hf
          refine p_callSN_r (As := [.int v3, .int x1]) (rest := []) X hM hl pcy_X0_has q1285 q914 (kX0_has g9) rfl (Nat.le_of_ble_eq_true rfl) (Nat.le_of_ble_eq_true rfl) rfl dX5_lesson_39 (fun H locs hM => ?_)
          obtain ⟨j89, ej89, hf⟩ := jn_open hf
          have J89 : ∀ (x2 : Bool) (h4 : PH) (H : Heap) (locs : List Loc), j89 x2 h4 = some (r, h') → PI D A cap H0 h4 H locs → ∀ ls : Array Slot, lv_has ls 5 [(0, .ref a0), (1, .int a1), (2, .int v2), (3, .int x1)] → Z H locs (cx H) (sx H) (F0 m 89 ls [.int (bI x2)]) := by
            intro x2 h4 H locs hf hM ls hl
            rw [ej89] at hf
            refine g_istore (lv' := [(4, .int (bI x2)), (0, .ref a0), (1, .int a1), (2, .int v2), (3, .int x1)]) G dX5_lesson_89 hl (Nat.le_of_ble_eq_true rfl) rfl (fun ls hl => ?_)
            refine g_iload G dX5_lesson_91 (lv_at hl 0 rfl) ?_
            obtain ⟨j130, ej130, hf⟩ := jn_open hf
            have J130 : ∀ (h5 : PH) (H : Heap) (locs : List Loc), j130 h5 = some (r, h') → PI D A cap H0 h5 H locs → ∀ ls : Array Slot, lv_has ls 5 [(0, .ref a0), (1, .int a1), (2, .int v2), (3, .int x1)] → Z H locs (cx H) (sx H) (F0 m 130 ls []) := by
              intro h5 H locs hf hM ls hl
              rw [ej130] at hf
              refine g_iinc (v := x1 + 1) (lv' := [(3, .int (x1 + 1)), (0, .ref a0), (1, .int a1), (2, .int v2)]) G dX5_lesson_130 hl (k := 3) rfl rfl (Nat.le_of_ble_eq_true rfl) rfl (fun ls hl => ?_)
              refine g_goto (tgt := 21) G dX5_lesson_133 rfl ?_
              exact ih21 _ _ _ _ hf hM ls (lv_sub hl [1, 2, 3, 0] rfl)
            refine g_if_eq (tgt := 130) G dX5_lesson_93 rfl (fun c3 => ?_) (fun c3 => ?_)
            · have hf := it_pos c3 hf
              exact J130 _ _ _ hf hM ls (lv_sub hl [1, 2, 3, 4] rfl)
            · have hf := it_neg c3 hf
              refine g_aload_n G dX5_lesson_96 rfl (lv_at hl 1 rfl) ?_
              obtain ⟨p5, g10, hf⟩ := vA_open hf
              refine p_get (k := 11) X hM pc_5 (by decide) q416 rfl g10 dX5_lesson_97 ?_
              obtain ⟨p6, g11, hf⟩ := vA_open hf
              refine p_getN (k := 0) X hM pc_0 (by decide) q445 rfl g11 dX5_lesson_100 ?_
              obtain ⟨q1, g12, hf⟩ := vQ_open hf
              refine p_getN (k := 6) X hM pc_1 (by decide) q245 rfl g12 dX5_lesson_103 ?_
              refine g_ifnullQ (tgt := 128) G dX5_lesson_106 rfl (fun c4 => ?_) (fun n1 c4 => ?_)
              · subst c4
                have hf := qC_none hf
                refine g_iload_n G dX5_lesson_128 rfl (lv_at hl 4 rfl) ?_
                exact p_iret X hM hf dX5_lesson_129
              · subst c4
                have hf := qC_some hf
                refine g_aload_n G dX5_lesson_109 rfl (lv_at hl 1 rfl) ?_
                refine g_aload_n G dX5_lesson_110 rfl (lv_at hl 1 rfl) ?_
                obtain ⟨p7, g13, hf⟩ := vA_open hf
                refine p_get (k := 11) X hM pc_5 (by decide) q416 rfl g13 dX5_lesson_111 ?_
                obtain ⟨p8, g14, hf⟩ := vA_open hf
                refine p_getN (k := 0) X hM pc_0 (by decide) q445 rfl g14 dX5_lesson_114 ?_
                obtain ⟨q2, g15, hf⟩ := vQ_open hf
                refine p_getN (k := 6) X hM pc_1 (by decide) q245 rfl g15 dX5_lesson_117 ?_
                refine g_iload_n G dX5_lesson_120 rfl (lv_at hl 2 rfl) ?_
                refine g_iload_n G dX5_lesson_121 rfl (lv_at hl 4 rfl) ?_
                obtain ⟨n2, e1, hfq⟩ := qS_open hf
                clear hf; subst e1; have hf := hfq; clear hfq
                obtain ⟨b2, hf⟩ := ckc_open hf
                obtain ⟨r3, h6, g16, hf⟩ := bnd_open hf
                refine p_callV_r (ci := 5) (As := [.ref n2, .int a1, .int x1]) (rest := []) X hM hl rfl b2 pcy_X5_holds q1322 q1324 qs41 (kX5_holds g16) rfl (Nat.le_of_ble_eq_true rfl) (Nat.le_of_ble_eq_true rfl) rfl dX5_lesson_122 (fun H locs hM => ?_)
                refine g_if_eq (tgt := 130) G dX5_lesson_125 rfl (fun c5 => ?_) (fun c5 => ?_)
                · have hf := it_pos c5 hf
                  exact J130 _ _ _ hf hM ls (lv_sub hl [1, 2, 3, 4] rfl)
                · have hf := it_neg c5 hf
                  refine g_iload_n G dX5_lesson_128 rfl (lv_at hl 4 rfl) ?_
                  exact p_iret X hM hf dX5_lesson_129
          obtain ⟨j88, ej88, hf⟩ := jn_open hf
          have J88 : ∀ (h7 : PH) (H : Heap) (locs : List Loc), j88 h7 = some (r, h') → PI D A cap H0 h7 H locs → ∀ ls : Array Slot, lv_has ls 5 [(0, .ref a0), (1, .int a1), (2, .int v2), (3, .int x1)] → Z H locs (cx H) (sx H) (F0 m 88 ls []) := by
            intro h7 H locs hf hM ls hl
            rw [ej88] at hf
            refine g_iconst (v := 0) G dX5_lesson_88 rfl ?_
            exact J89 _ _ _ _ hf hM ls (lv_sub hl [0, 1, 2, 3] rfl)
          refine g_if_ne (tgt := 88) G dX5_lesson_42 rfl (fun c6 => ?_) (fun c6 => ?_)
          · have hf := it_neg c6 hf
            exact J88 _ _ _ hf hM ls (lv_sub hl [0, 1, 2, 3] rfl)
          · have hf := it_pos c6 hf
            refine g_aload_n G dX5_lesson_45 rfl (lv_at hl 0 rfl) ?_
            obtain ⟨p9, g17, hf⟩ := vA_open hf
            refine p_get (k := 5) X hM pc_5 (by decide) q406 rfl g17 dX5_lesson_46 ?_
            refine g_iload_n G dX5_lesson_49 rfl (lv_at hl 2 rfl) ?_
            obtain ⟨v4, g18, hf⟩ := ob_open hf
            refine p_iald X hM g18 dX5_lesson_50 ?_
            refine g_iload_n G dX5_lesson_51 rfl (lv_at hl 3 rfl) ?_
            obtain ⟨r4, h8, g19, hf⟩ := bnd_open hf
            refine p_callSN_r (As := [.int v4, .int x1]) (rest := []) X hM hl pcy_X0_has q1285 q914 (kX0_has g19) rfl (Nat.le_of_ble_eq_true rfl) (Nat.le_of_ble_eq_true rfl) rfl dX5_lesson_52 (fun H locs hM => ?_)
            obtain ⟨j84, ej84, hf⟩ := jn_open hf
            have J84 : ∀ (h9 : PH) (H : Heap) (locs : List Loc), j84 h9 = some (r, h') → PI D A cap H0 h9 H locs → ∀ ls : Array Slot, lv_has ls 5 [(0, .ref a0), (1, .int a1), (2, .int v2), (3, .int x1)] → Z H locs (cx H) (sx H) (F0 m 84 ls []) := by
              intro h9 H locs hf hM ls hl
              rw [ej84] at hf
              refine g_iconst (v := 1) G dX5_lesson_84 rfl ?_
              refine g_goto (tgt := 89) G dX5_lesson_85 rfl ?_
              exact J89 _ _ _ _ hf hM ls (lv_sub hl [0, 1, 2, 3] rfl)
            refine g_if_ne (tgt := 84) G dX5_lesson_55 rfl (fun c7 => ?_) (fun c7 => ?_)
            · have hf := it_neg c7 hf
              exact J84 _ _ _ hf hM ls (lv_sub hl [0, 1, 2, 3] rfl)
            · have hf := it_pos c7 hf
              refine g_aload_n G dX5_lesson_58 rfl (lv_at hl 0 rfl) ?_
              obtain ⟨p10, g20, hf⟩ := vA_open hf
              refine p_get (k := 6) X hM pc_5 (by decide) q408 rfl g20 dX5_lesson_59 ?_
              refine g_iload_n G dX5_lesson_62 rfl (lv_at hl 2 rfl) ?_
              obtain ⟨v5, g21, hf⟩ := ob_open hf
              refine p_iald X hM g21 dX5_lesson_63 ?_
              refine g_iload_n G dX5_lesson_64 rfl (lv_at hl 3 rfl) ?_
              obtain ⟨r5, h10, g22, hf⟩ := bnd_open hf
              refine p_callSN_r (As := [.int v5, .int x1]) (rest := []) X hM hl pcy_X0_has q1285 q914 (kX0_has g22) rfl (Nat.le_of_ble_eq_true rfl) (Nat.le_of_ble_eq_true rfl) rfl dX5_lesson_65 (fun H locs hM => ?_)
              refine g_if_eq (tgt := 88) G dX5_lesson_68 rfl (fun c8 => ?_) (fun c8 => ?_)
              · have hf := it_pos c8 hf
                exact J88 _ _ _ hf hM ls (lv_sub hl [0, 1, 2, 3] rfl)
              · have hf := it_neg c8 hf
                refine g_aload_n G dX5_lesson_71 rfl (lv_at hl 0 rfl) ?_
                obtain ⟨p11, g23, hf⟩ := vA_open hf
                refine p_get (k := 6) X hM pc_5 (by decide) q408 rfl g23 dX5_lesson_72 ?_
                refine g_iload_n G dX5_lesson_75 rfl (lv_at hl 1 rfl) ?_
                obtain ⟨v6, g24, hf⟩ := ob_open hf
                refine p_iald X hM g24 dX5_lesson_76 ?_
                refine g_iload_n G dX5_lesson_77 rfl (lv_at hl 3 rfl) ?_
                obtain ⟨r6, h11, g25, hf⟩ := bnd_open hf
                refine p_callSN_r (As := [.int v6, .int x1]) (rest := []) X hM hl pcy_X0_has q1285 q914 (kX0_has g25) rfl (Nat.le_of_ble_eq_true rfl) (Nat.le_of_ble_eq_true rfl) rfl dX5_lesson_78 (fun H locs hM => ?_)
                refine g_if_ne (tgt := 88) G dX5_lesson_81 rfl (fun c9 => ?_) (fun c9 => ?_)
                · have hf := it_neg c9 hf
                  exact J88 _ _ _ hf hM ls (lv_sub hl [0, 1, 2, 3] rfl)
                · have hf := it_pos c9 hf
                  exact J84 _ _ _ hf hM ls (lv_sub hl [0, 1, 2, 3] rfl)
    exact L21 FU _ _ _ _ hf hM ls (lv_sub hl [2, 3, 1, 0] rfl)
  · have hf := it_pos c1 hf
    refine g_iconst (v := (-1)) G dX5_lesson_10 rfl ?_
    exact p_iret X hM hf dX5_lesson_11
theorem pcy_X5_teaches : pcY yX5_teaches cX5_teaches 4 none 1 := ⟨q1437, q156, ⟨by decide +kernel, by decide +kernel, by decide +kernel⟩, Nat.le_of_ble_eq_true rfl⟩
noncomputable def fX5_teaches_L166 (a0 : Nat) (s166 : Int32 → PH → Option (PH)) (x1 : Int32) (h3 : PH) : Option (PH) :=
  vA (pF h3 a0 5 11) fun p1 =>
  ckc (pCls h3 p1) 0 <|
  bnd (fX0_people p1 h3) fun r1 h4 =>
  if r1 ≤ x1 then
    some h4
  else
    vA (pF h4 a0 5 9) fun p2 =>
    ob (pLd h4 p2 0 x1) fun v1 =>
    jn (fun (h5 : PH) =>
      s166 (x1 + 1) h5) fun j245 =>
    if v1 = ((-1) : Int32) then
      j245 h4
    else
      vA (pF h4 a0 5 9) fun p3 =>
      ob (pLd h4 p3 0 x1) fun v2 =>
      vA (pF h4 a0 5 6) fun p4 =>
      ob (pLd h4 p4 0 x1) fun v3 =>
      bnv (pSt h4 p4 0 x1 (v3 &&& (((1 : Int32) <<< (v2 &&& 31)) ^^^ (-1)))) fun h6 =>
      vI (pF h6 a0 5 10) fun v4 =>
      bnd (fX0_has v4 x1 h6) fun r2 h7 =>
      if (bI r2) = 0 then
        vA (pF h7 a0 5 5) fun p5 =>
        ob (pLd h7 p5 0 x1) fun v5 =>
        bnv (pSt h7 p5 0 x1 (v5 ||| ((1 : Int32) <<< (v2 &&& 31)))) fun h8 =>
        j245 h8
      else
        vA (pF h7 a0 5 6) fun p6 =>
        ob (pLd h7 p6 0 x1) fun v6 =>
        bnv (pSt h7 p6 0 x1 (v6 ||| ((1 : Int32) <<< (v2 &&& 31)))) fun h9 =>
        j245 h9
noncomputable def fX5_teaches_L7 (D : PD) (a0 : Nat) (a1 : Int32) (k164 : PH → Option (PH)) (s7 : Int32 → PH → Option (PH)) (x2 : Int32) (h10 : PH) : Option (PH) :=
  vA (pF h10 a0 5 11) fun p7 =>
  ckc (pCls h10 p7) 0 <|
  bnd (fX0_people p7 h10) fun r3 h11 =>
  if r3 ≤ x2 then
    k164 h11
  else
    vA (pF h11 a0 5 9) fun p8 =>
    bnd (fX0_has a1 x2 h11) fun r4 h12 =>
    jn (fun (x3 : Int32) (h13 : PH) =>
      bnv (pSt h13 p8 0 x2 x3) fun h14 =>
      vA (pF h14 a0 5 9) fun p9 =>
      ob (pLd h14 p9 0 x2) fun v7 =>
      jn (fun (h15 : PH) =>
        s7 (x2 + 1) h15) fun j158 =>
      if v7 = ((-1) : Int32) then
        j158 h14
      else
        vA (pF h14 a0 5 6) fun p10 =>
        ob (pLd h14 p10 0 x2) fun v8 =>
        vA (pF h14 a0 5 9) fun p11 =>
        ob (pLd h14 p11 0 x2) fun v9 =>
        bnd (fX0_has v8 v9 h14) fun r5 h16 =>
        if (bI r5) = 0 then
          vA (pF h16 a0 5 6) fun p12 =>
          vA (pF h16 a0 5 4) fun p13 =>
          ob (pLd h16 p13 0 x2) fun v10 =>
          ob (pLd h16 p12 0 v10) fun v11 =>
          vA (pF h16 a0 5 9) fun p14 =>
          ob (pLd h16 p14 0 x2) fun v12 =>
          bnd (fX0_has v11 v12 h16) fun r6 h17 =>
          jn (fun (x4 : Bool) (h18 : PH) =>
            vI (pF h18 a0 5 10) fun v13 =>
            jn (fun (x5 : Int32) (h19 : PH) =>
              bnv (pPut h19 a0 5 10 (.int (v13 ||| x5))) fun h20 =>
              j158 h20) fun j154 =>
            if (bI x4) = 0 then
              j154 0 h18
            else
              j154 ((1 : Int32) <<< (x2 &&& 31)) h18) fun j137 =>
          jn (fun (h21 : PH) =>
            j137 true h21) fun j132 =>
          if (bI r6) = 0 then
            vA (pF h17 a0 5 11) fun p15 =>
            vA (pF h17 p15 0 0) fun p16 =>
            vQ (pF h17 p16 1 7) fun q1 =>
            jn (fun (h22 : PH) =>
              j137 false h22) fun j136 =>
            qC q1 (
              j136 h17) fun n1 =>
              vA (pF h17 a0 5 11) fun p17 =>
              vA (pF h17 p17 0 0) fun p18 =>
              vQ (pF h17 p18 1 7) fun q2 =>
              vA (pF h17 a0 5 9) fun p19 =>
              ob (pLd h17 p19 0 x2) fun v14 =>
              qS q2 fun n2 =>
              ckc (pCls h17 a0) 5 <|
              bnd (fX5_holds D a0 n2 x2 v14 h17) fun r7 h23 =>
              if (bI r7) = 0 then
                j136 h23
              else
                j132 h23
          else
            j132 h17
        else
          j158 h16) fun j40 =>
    if (bI r4) = 0 then
      ckc (pCls h12 a0) 5 <|
      bnd (fX5_lesson D a0 x2 h12) fun r8 h24 =>
      j40 r8 h24
    else
      j40 (-1) h12
noncomputable def fX5_teaches (D : PD) (a0 : Nat) (a1 : Int32) (h : PH) : Option (PH) :=
  bnv (pPut h a0 5 10 (.int 0)) fun h1 =>
  jn (fun (h2 : PH) =>
    fx (fX5_teaches_L166 a0) (fun _ _ => none) FU 0 h2) fun k164 =>
  fx (fX5_teaches_L7 D a0 a1 k164) (fun _ _ => none) FU 0 h1
set_option maxHeartbeats 1000000 in
theorem kX5_teaches {l : Launch} {D : PD} {A : Nat → Prop} {cap : Nat × Nat} {a0 : Nat} {a1 : Int32} {h h' : PH} (hf : fX5_teaches D a0 a1 h = some h') : CMet l D A cap yX5_teaches cX5_teaches 4 none 97 [.ref a0, .int a1] h h' (none) := by
  unfold fX5_teaches at hf
  refine p_head (own := RX5) (ini := false) (pn_X5 rfl) rfl (fun q => by cases q) (Nat.le_of_ble_eq_true rfl) (fun m Z cx sx H0 ls X hM hl => ?_)
  have G := X.g
  have hl : lv_has ls 4 [(0, .ref a0), (1, .int a1)] := hl
  refine g_aload_n G dX5_teaches_0 rfl (lv_at hl 0 rfl) ?_
  refine g_iconst (v := 0) G dX5_teaches_1 rfl ?_
  obtain ⟨h1, g1, hf⟩ := bnv_open hf
  refine p_put (k := 10) X hM pc_5 (by decide) q415 rfl rfl rfl rfl g1 dX5_teaches_2 (fun H locs hM => ?_)
  refine g_iconst (v := 0) G dX5_teaches_5 rfl ?_
  refine g_istore_n (i := 2) (lv' := [(2, .int 0), (0, .ref a0), (1, .int a1)]) G dX5_teaches_6 rfl hl (Nat.le_of_ble_eq_true rfl) rfl (fun ls hl => ?_)
  obtain ⟨k164, ek164, hf⟩ := jn_open hf
  have K164 : ∀ (h2 : PH) (H : Heap) (locs : List Loc), k164 h2 = some h' → PI D A cap H0 h2 H locs → ∀ ls : Array Slot, lv_has ls 4 [(0, .ref a0)] → Z H locs (cx H) (sx H) (F0 m 164 ls []) := by
    intro h2 H locs hf hM ls hl
    rw [ek164] at hf
    refine g_iconst (v := 0) G dX5_teaches_164 rfl ?_
    refine g_istore_n (i := 2) (lv' := [(2, .int 0), (0, .ref a0)]) G dX5_teaches_165 rfl hl (Nat.le_of_ble_eq_true rfl) rfl (fun ls hl => ?_)
    have L166 : ∀ (n : Nat) (x1 : Int32) (h3 : PH) (H : Heap) (locs : List Loc), fx (fX5_teaches_L166 a0) (fun _ _ => none) n x1 h3 = some h' → PI D A cap H0 h3 H locs → ∀ ls : Array Slot, lv_has ls 4 [(0, .ref a0), (2, .int x1)] → Z H locs (cx H) (sx H) (F0 m 166 ls []) := by
      intro n
      induction n with
      | zero => intro x1 h3 H locs hf; exact absurd hf (by intro q; cases q)
      | succ n ih166 =>
        intro x1 h3 H locs hf hM ls hl
        rw [fx_s] at hf
        generalize fx (fX5_teaches_L166 a0) (fun _ _ => none) n = s166 at hf ih166
        unfold fX5_teaches_L166 at hf
        refine g_iload_n G dX5_teaches_166 rfl (lv_at hl 1 rfl) ?_
        refine g_aload_n G dX5_teaches_167 rfl (lv_at hl 0 rfl) ?_
        obtain ⟨p1, g2, hf⟩ := vA_open hf
        refine p_get (k := 11) X hM pc_5 (by decide) q416 rfl g2 dX5_teaches_168 ?_
        obtain ⟨b1, hf⟩ := ckc_open hf
        obtain ⟨r1, h4, g3, hf⟩ := bnd_open hf
        refine p_callVN_r (ci := 0) (As := []) (rest := [.int x1]) X hM hl rfl b1 pcy_X0_people q1206 q1208 qs34 (kX0_people g3) rfl (Nat.le_of_ble_eq_true rfl) (Nat.le_of_ble_eq_true rfl) rfl dX5_teaches_171 (fun H locs hM => ?_)
        refine g_icmp_ge (tgt := 251) G dX5_teaches_174 rfl (fun c1 => ?_) (fun c1 => ?_)
        · have hf := it_pos c1 hf
          exact p_vret X hM hf dX5_teaches_251
        · have hf := it_neg c1 hf
          refine g_aload_n G dX5_teaches_177 rfl (lv_at hl 0 rfl) ?_
          obtain ⟨p2, g4, hf⟩ := vA_open hf
          refine p_get (k := 9) X hM pc_5 (by decide) q414 rfl g4 dX5_teaches_178 ?_
          refine g_iload_n G dX5_teaches_181 rfl (lv_at hl 1 rfl) ?_
          obtain ⟨v1, g5, hf⟩ := ob_open hf
          refine p_iald X hM g5 dX5_teaches_182 ?_
          refine g_iconst (v := (-1)) G dX5_teaches_183 rfl ?_
          obtain ⟨j245, ej245, hf⟩ := jn_open hf
          have J245 : ∀ (h5 : PH) (H : Heap) (locs : List Loc), j245 h5 = some h' → PI D A cap H0 h5 H locs → ∀ ls : Array Slot, lv_has ls 4 [(0, .ref a0), (2, .int x1)] → Z H locs (cx H) (sx H) (F0 m 245 ls []) := by
            intro h5 H locs hf hM ls hl
            rw [ej245] at hf
            refine g_iinc (v := x1 + 1) (lv' := [(2, .int (x1 + 1)), (0, .ref a0)]) G dX5_teaches_245 hl (k := 1) rfl rfl (Nat.le_of_ble_eq_true rfl) rfl (fun ls hl => ?_)
            refine g_goto (tgt := 166) G dX5_teaches_248 rfl ?_
            exact ih166 _ _ _ _ hf hM ls (lv_sub hl [1, 0] rfl)
          refine g_icmp_ne (tgt := 190) G dX5_teaches_184 rfl (fun c2 => ?_) (fun c2 => ?_)
          · have hf := it_neg c2 hf
            refine g_iconst (v := 1) G dX5_teaches_190 rfl ?_
            refine g_aload_n G dX5_teaches_191 rfl (lv_at hl 0 rfl) ?_
            obtain ⟨p3, g6, hf⟩ := vA_open hf
            refine p_get (k := 9) X hM pc_5 (by decide) q414 rfl g6 dX5_teaches_192 ?_
            refine g_iload_n G dX5_teaches_195 rfl (lv_at hl 1 rfl) ?_
            obtain ⟨v2, g7, hf⟩ := ob_open hf
            refine p_iald X hM g7 dX5_teaches_196 ?_
            refine g_ishl G dX5_teaches_197 ?_
            refine g_istore_n (i := 3) (lv' := [(3, .int ((1 : Int32) <<< (v2 &&& 31))), (0, .ref a0), (2, .int x1)]) G dX5_teaches_198 rfl hl (Nat.le_of_ble_eq_true rfl) rfl (fun ls hl => ?_)
            refine g_aload_n G dX5_teaches_199 rfl (lv_at hl 1 rfl) ?_
            obtain ⟨p4, g8, hf⟩ := vA_open hf
            refine p_get (k := 6) X hM pc_5 (by decide) q408 rfl g8 dX5_teaches_200 ?_
            refine g_iload_n G dX5_teaches_203 rfl (lv_at hl 2 rfl) ?_
            refine g_dup2_11 G dX5_teaches_204 rfl rfl ?_
            obtain ⟨v3, g9, hf⟩ := ob_open hf
            refine p_iald X hM g9 dX5_teaches_205 ?_
            refine g_iload_n G dX5_teaches_206 rfl (lv_at hl 0 rfl) ?_
            refine g_iconst (v := (-1)) G dX5_teaches_207 rfl ?_
            refine g_ixor G dX5_teaches_208 ?_
            refine g_iand G dX5_teaches_209 ?_
            obtain ⟨h6, g10, hf⟩ := bnv_open hf
            refine p_iast X hM g10 dX5_teaches_210 (fun H locs hM => ?_)
            refine g_aload_n G dX5_teaches_211 rfl (lv_at hl 1 rfl) ?_
            obtain ⟨v4, g11, hf⟩ := vI_open hf
            refine p_get (k := 10) X hM pc_5 (by decide) q415 rfl g11 dX5_teaches_212 ?_
            refine g_iload_n G dX5_teaches_215 rfl (lv_at hl 2 rfl) ?_
            obtain ⟨r2, h7, g12, hf⟩ := bnd_open hf
            refine p_callSN_r (As := [.int v4, .int x1]) (rest := []) X hM hl pcy_X0_has q1285 q914 (kX0_has g12) rfl (Nat.le_of_ble_eq_true rfl) (Nat.le_of_ble_eq_true rfl) rfl dX5_teaches_216 (fun H locs hM => ?_)
            refine g_if_eq (tgt := 235) G dX5_teaches_219 rfl (fun c3 => ?_) (fun c3 => ?_)
            · have hf := it_pos c3 hf
              refine g_aload_n G dX5_teaches_235 rfl (lv_at hl 1 rfl) ?_
              obtain ⟨p5, g13, hf⟩ := vA_open hf
              refine p_get (k := 5) X hM pc_5 (by decide) q406 rfl g13 dX5_teaches_236 ?_
              refine g_iload_n G dX5_teaches_239 rfl (lv_at hl 2 rfl) ?_
              refine g_dup2_11 G dX5_teaches_240 rfl rfl ?_
              obtain ⟨v5, g14, hf⟩ := ob_open hf
              refine p_iald X hM g14 dX5_teaches_241 ?_
              refine g_iload_n G dX5_teaches_242 rfl (lv_at hl 0 rfl) ?_
              refine g_ior G dX5_teaches_243 ?_
              obtain ⟨h8, g15, hf⟩ := bnv_open hf
              refine p_iast X hM g15 dX5_teaches_244 (fun H locs hM => ?_)
              exact J245 _ _ _ hf hM ls (lv_sub hl [1, 2] rfl)
            · have hf := it_neg c3 hf
              refine g_aload_n G dX5_teaches_222 rfl (lv_at hl 1 rfl) ?_
              obtain ⟨p6, g16, hf⟩ := vA_open hf
              refine p_get (k := 6) X hM pc_5 (by decide) q408 rfl g16 dX5_teaches_223 ?_
              refine g_iload_n G dX5_teaches_226 rfl (lv_at hl 2 rfl) ?_
              refine g_dup2_11 G dX5_teaches_227 rfl rfl ?_
              obtain ⟨v6, g17, hf⟩ := ob_open hf
              refine p_iald X hM g17 dX5_teaches_228 ?_
              refine g_iload_n G dX5_teaches_229 rfl (lv_at hl 0 rfl) ?_
              refine g_ior G dX5_teaches_230 ?_
              obtain ⟨h9, g18, hf⟩ := bnv_open hf
              refine p_iast X hM g18 dX5_teaches_231 (fun H locs hM => ?_)
              refine g_goto (tgt := 245) G dX5_teaches_232 rfl ?_
              exact J245 _ _ _ hf hM ls (lv_sub hl [1, 2] rfl)
          · have hf := it_pos c2 hf
            refine g_goto (tgt := 245) G dX5_teaches_187 rfl ?_
            exact J245 _ _ _ hf hM ls (lv_sub hl [0, 1] rfl)
    exact L166 FU _ _ _ _ hf hM ls (lv_sub hl [1, 0] rfl)
  have L7 : ∀ (n : Nat) (x2 : Int32) (h10 : PH) (H : Heap) (locs : List Loc), fx (fX5_teaches_L7 D a0 a1 k164) (fun _ _ => none) n x2 h10 = some h' → PI D A cap H0 h10 H locs → ∀ ls : Array Slot, lv_has ls 4 [(0, .ref a0), (1, .int a1), (2, .int x2)] → Z H locs (cx H) (sx H) (F0 m 7 ls []) := by
    intro n
    induction n with
    | zero => intro x2 h10 H locs hf; exact absurd hf (by intro q; cases q)
    | succ n ih7 =>
      intro x2 h10 H locs hf hM ls hl
      rw [fx_s] at hf
      generalize fx (fX5_teaches_L7 D a0 a1 k164) (fun _ _ => none) n = s7 at hf ih7
      unfold fX5_teaches_L7 at hf
      refine g_iload_n G dX5_teaches_7 rfl (lv_at hl 2 rfl) ?_
      refine g_aload_n G dX5_teaches_8 rfl (lv_at hl 0 rfl) ?_
      obtain ⟨p7, g19, hf⟩ := vA_open hf
      refine p_get (k := 11) X hM pc_5 (by decide) q416 rfl g19 dX5_teaches_9 ?_
      obtain ⟨b2, hf⟩ := ckc_open hf
      obtain ⟨r3, h11, g20, hf⟩ := bnd_open hf
      refine p_callVN_r (ci := 0) (As := []) (rest := [.int x2]) X hM hl rfl b2 pcy_X0_people q1206 q1208 qs34 (kX0_people g20) rfl (Nat.le_of_ble_eq_true rfl) (Nat.le_of_ble_eq_true rfl) rfl dX5_teaches_12 (fun H locs hM => ?_)
      refine g_icmp_ge (tgt := 164) G dX5_teaches_15 rfl (fun c4 => ?_) (fun c4 => ?_)
      · have hf := it_pos c4 hf
        exact K164 _ _ _ hf hM ls (lv_sub hl [0] rfl)
      · have hf := it_neg c4 hf
        refine g_aload_n G dX5_teaches_18 rfl (lv_at hl 0 rfl) ?_
        obtain ⟨p8, g21, hf⟩ := vA_open hf
        refine p_get (k := 9) X hM pc_5 (by decide) q414 rfl g21 dX5_teaches_19 ?_
        refine g_iload_n G dX5_teaches_22 rfl (lv_at hl 2 rfl) ?_
        refine g_iload_n G dX5_teaches_23 rfl (lv_at hl 1 rfl) ?_
        refine g_iload_n G dX5_teaches_24 rfl (lv_at hl 2 rfl) ?_
        obtain ⟨r4, h12, g22, hf⟩ := bnd_open hf
        refine p_callSN_r (As := [.int a1, .int x2]) (rest := [.int x2, .ref p8]) X hM hl pcy_X0_has q1285 q914 (kX0_has g22) rfl (Nat.le_of_ble_eq_true rfl) (Nat.le_of_ble_eq_true rfl) rfl dX5_teaches_25 (fun H locs hM => ?_)
        obtain ⟨j40, ej40, hf⟩ := jn_open hf
        have J40 : ∀ (x3 : Int32) (h13 : PH) (H : Heap) (locs : List Loc), j40 x3 h13 = some h' → PI D A cap H0 h13 H locs → ∀ ls : Array Slot, lv_has ls 4 [(0, .ref a0), (1, .int a1), (2, .int x2)] → Z H locs (cx H) (sx H) (F0 m 40 ls [.int x3, .int x2, .ref p8]) := by
          intro x3 h13 H locs hf hM ls hl
          rw [ej40] at hf
          obtain ⟨h14, g23, hf⟩ := bnv_open hf
          refine p_iast X hM g23 dX5_teaches_40 (fun H locs hM => ?_)
          refine g_aload_n G dX5_teaches_41 rfl (lv_at hl 0 rfl) ?_
          obtain ⟨p9, g24, hf⟩ := vA_open hf
          refine p_get (k := 9) X hM pc_5 (by decide) q414 rfl g24 dX5_teaches_42 ?_
          refine g_iload_n G dX5_teaches_45 rfl (lv_at hl 2 rfl) ?_
          obtain ⟨v7, g25, hf⟩ := ob_open hf
          refine p_iald X hM g25 dX5_teaches_46 ?_
          refine g_iconst (v := (-1)) G dX5_teaches_47 rfl ?_
          obtain ⟨j158, ej158, hf⟩ := jn_open hf
          have J158 : ∀ (h15 : PH) (H : Heap) (locs : List Loc), j158 h15 = some h' → PI D A cap H0 h15 H locs → ∀ ls : Array Slot, lv_has ls 4 [(0, .ref a0), (1, .int a1), (2, .int x2)] → Z H locs (cx H) (sx H) (F0 m 158 ls []) := by
            intro h15 H locs hf hM ls hl
            rw [ej158] at hf
            refine g_iinc (v := x2 + 1) (lv' := [(2, .int (x2 + 1)), (0, .ref a0), (1, .int a1)]) G dX5_teaches_158 hl (k := 2) rfl rfl (Nat.le_of_ble_eq_true rfl) rfl (fun ls hl => ?_)
            refine g_goto (tgt := 7) G dX5_teaches_161 rfl ?_
            exact ih7 _ _ _ _ hf hM ls (lv_sub hl [1, 2, 0] rfl)
          refine g_icmp_eq (tgt := 158) G dX5_teaches_48 rfl (fun c5 => ?_) (fun c5 => ?_)
          · have hf := it_pos c5 hf
            exact J158 _ _ _ hf hM ls (lv_sub hl [0, 1, 2] rfl)
          · have hf := it_neg c5 hf
            refine g_aload_n G dX5_teaches_51 rfl (lv_at hl 0 rfl) ?_
            obtain ⟨p10, g26, hf⟩ := vA_open hf
            refine p_get (k := 6) X hM pc_5 (by decide) q408 rfl g26 dX5_teaches_52 ?_
            refine g_iload_n G dX5_teaches_55 rfl (lv_at hl 2 rfl) ?_
            obtain ⟨v8, g27, hf⟩ := ob_open hf
            refine p_iald X hM g27 dX5_teaches_56 ?_
            refine g_aload_n G dX5_teaches_57 rfl (lv_at hl 0 rfl) ?_
            obtain ⟨p11, g28, hf⟩ := vA_open hf
            refine p_get (k := 9) X hM pc_5 (by decide) q414 rfl g28 dX5_teaches_58 ?_
            refine g_iload_n G dX5_teaches_61 rfl (lv_at hl 2 rfl) ?_
            obtain ⟨v9, g29, hf⟩ := ob_open hf
            refine p_iald X hM g29 dX5_teaches_62 ?_
            obtain ⟨r5, h16, g30, hf⟩ := bnd_open hf
            refine p_callSN_r (As := [.int v8, .int v9]) (rest := []) X hM hl pcy_X0_has q1285 q914 (kX0_has g30) rfl (Nat.le_of_ble_eq_true rfl) (Nat.le_of_ble_eq_true rfl) rfl dX5_teaches_63 (fun H locs hM => ?_)
            refine g_if_eq (tgt := 72) G dX5_teaches_66 rfl (fun c6 => ?_) (fun c6 => ?_)
            · have hf := it_pos c6 hf
              refine g_aload_n G dX5_teaches_72 rfl (lv_at hl 0 rfl) ?_
              obtain ⟨p12, g31, hf⟩ := vA_open hf
              refine p_get (k := 6) X hM pc_5 (by decide) q408 rfl g31 dX5_teaches_73 ?_
              refine g_aload_n G dX5_teaches_76 rfl (lv_at hl 0 rfl) ?_
              obtain ⟨p13, g32, hf⟩ := vA_open hf
              refine p_get (k := 4) X hM pc_5 (by decide) q404 rfl g32 dX5_teaches_77 ?_
              refine g_iload_n G dX5_teaches_80 rfl (lv_at hl 2 rfl) ?_
              obtain ⟨v10, g33, hf⟩ := ob_open hf
              refine p_iald X hM g33 dX5_teaches_81 ?_
              obtain ⟨v11, g34, hf⟩ := ob_open hf
              refine p_iald X hM g34 dX5_teaches_82 ?_
              refine g_aload_n G dX5_teaches_83 rfl (lv_at hl 0 rfl) ?_
              obtain ⟨p14, g35, hf⟩ := vA_open hf
              refine p_get (k := 9) X hM pc_5 (by decide) q414 rfl g35 dX5_teaches_84 ?_
              refine g_iload_n G dX5_teaches_87 rfl (lv_at hl 2 rfl) ?_
              obtain ⟨v12, g36, hf⟩ := ob_open hf
              refine p_iald X hM g36 dX5_teaches_88 ?_
              obtain ⟨r6, h17, g37, hf⟩ := bnd_open hf
              refine p_callSN_r (As := [.int v11, .int v12]) (rest := []) X hM hl pcy_X0_has q1285 q914 (kX0_has g37) rfl (Nat.le_of_ble_eq_true rfl) (Nat.le_of_ble_eq_true rfl) rfl dX5_teaches_89 (fun H locs hM => ?_)
              obtain ⟨j137, ej137, hf⟩ := jn_open hf
              have J137 : ∀ (x4 : Bool) (h18 : PH) (H : Heap) (locs : List Loc), j137 x4 h18 = some h' → PI D A cap H0 h18 H locs → ∀ ls : Array Slot, lv_has ls 4 [(0, .ref a0), (1, .int a1), (2, .int x2)] → Z H locs (cx H) (sx H) (F0 m 137 ls [.int (bI x4)]) := by
                intro x4 h18 H locs hf hM ls hl
                rw [ej137] at hf
                refine g_istore_n (i := 3) (lv' := [(3, .int (bI x4)), (0, .ref a0), (1, .int a1), (2, .int x2)]) G dX5_teaches_137 rfl hl (Nat.le_of_ble_eq_true rfl) rfl (fun ls hl => ?_)
                refine g_aload_n G dX5_teaches_138 rfl (lv_at hl 1 rfl) ?_
                refine g_dup G dX5_teaches_139 rfl ?_
                obtain ⟨v13, g38, hf⟩ := vI_open hf
                refine p_get (k := 10) X hM pc_5 (by decide) q415 rfl g38 dX5_teaches_140 ?_
                refine g_iload_n G dX5_teaches_143 rfl (lv_at hl 0 rfl) ?_
                obtain ⟨j154, ej154, hf⟩ := jn_open hf
                have J154 : ∀ (x5 : Int32) (h19 : PH) (H : Heap) (locs : List Loc), j154 x5 h19 = some h' → PI D A cap H0 h19 H locs → ∀ ls : Array Slot, lv_has ls 4 [(0, .ref a0), (1, .int a1), (2, .int x2)] → Z H locs (cx H) (sx H) (F0 m 154 ls [.int x5, .int v13, .ref a0]) := by
                  intro x5 h19 H locs hf hM ls hl
                  rw [ej154] at hf
                  refine g_ior G dX5_teaches_154 ?_
                  obtain ⟨h20, g39, hf⟩ := bnv_open hf
                  refine p_put (k := 10) X hM pc_5 (by decide) q415 rfl rfl rfl rfl g39 dX5_teaches_155 (fun H locs hM => ?_)
                  exact J158 _ _ _ hf hM ls (lv_sub hl [0, 1, 2] rfl)
                refine g_if_eq (tgt := 153) G dX5_teaches_144 rfl (fun c7 => ?_) (fun c7 => ?_)
                · have hf := it_pos c7 hf
                  refine g_iconst (v := 0) G dX5_teaches_153 rfl ?_
                  exact J154 _ _ _ _ hf hM ls (lv_sub hl [1, 2, 3] rfl)
                · have hf := it_neg c7 hf
                  refine g_iconst (v := 1) G dX5_teaches_147 rfl ?_
                  refine g_iload_n G dX5_teaches_148 rfl (lv_at hl 3 rfl) ?_
                  refine g_ishl G dX5_teaches_149 ?_
                  refine g_goto (tgt := 154) G dX5_teaches_150 rfl ?_
                  exact J154 _ _ _ _ hf hM ls (lv_sub hl [1, 2, 3] rfl)
              obtain ⟨j132, ej132, hf⟩ := jn_open hf
              have J132 : ∀ (h21 : PH) (H : Heap) (locs : List Loc), j132 h21 = some h' → PI D A cap H0 h21 H locs → ∀ ls : Array Slot, lv_has ls 4 [(0, .ref a0), (1, .int a1), (2, .int x2)] → Z H locs (cx H) (sx H) (F0 m 132 ls []) := by
                intro h21 H locs hf hM ls hl
                rw [ej132] at hf
                refine g_iconst (v := 1) G dX5_teaches_132 rfl ?_
                refine g_goto (tgt := 137) G dX5_teaches_133 rfl ?_
                exact J137 _ _ _ _ hf hM ls (lv_sub hl [0, 1, 2] rfl)
              refine g_if_ne (tgt := 132) G dX5_teaches_92 rfl (fun c8 => ?_) (fun c8 => ?_)
              · have hf := it_neg c8 hf
                exact J132 _ _ _ hf hM ls (lv_sub hl [0, 1, 2] rfl)
              · have hf := it_pos c8 hf
                refine g_aload_n G dX5_teaches_95 rfl (lv_at hl 0 rfl) ?_
                obtain ⟨p15, g40, hf⟩ := vA_open hf
                refine p_get (k := 11) X hM pc_5 (by decide) q416 rfl g40 dX5_teaches_96 ?_
                obtain ⟨p16, g41, hf⟩ := vA_open hf
                refine p_getN (k := 0) X hM pc_0 (by decide) q445 rfl g41 dX5_teaches_99 ?_
                obtain ⟨q1, g42, hf⟩ := vQ_open hf
                refine p_getN (k := 7) X hM pc_1 (by decide) q247 rfl g42 dX5_teaches_102 ?_
                obtain ⟨j136, ej136, hf⟩ := jn_open hf
                have J136 : ∀ (h22 : PH) (H : Heap) (locs : List Loc), j136 h22 = some h' → PI D A cap H0 h22 H locs → ∀ ls : Array Slot, lv_has ls 4 [(0, .ref a0), (1, .int a1), (2, .int x2)] → Z H locs (cx H) (sx H) (F0 m 136 ls []) := by
                  intro h22 H locs hf hM ls hl
                  rw [ej136] at hf
                  refine g_iconst (v := 0) G dX5_teaches_136 rfl ?_
                  exact J137 _ _ _ _ hf hM ls (lv_sub hl [0, 1, 2] rfl)
                refine g_ifnullQ (tgt := 136) G dX5_teaches_105 rfl (fun c9 => ?_) (fun n1 c9 => ?_)
                · subst c9
                  have hf := qC_none hf
                  exact J136 _ _ _ hf hM ls (lv_sub hl [0, 1, 2] rfl)
                · subst c9
                  have hf := qC_some hf
                  refine g_aload_n G dX5_teaches_108 rfl (lv_at hl 0 rfl) ?_
                  refine g_aload_n G dX5_teaches_109 rfl (lv_at hl 0 rfl) ?_
                  obtain ⟨p17, g43, hf⟩ := vA_open hf
                  refine p_get (k := 11) X hM pc_5 (by decide) q416 rfl g43 dX5_teaches_110 ?_
                  obtain ⟨p18, g44, hf⟩ := vA_open hf
                  refine p_getN (k := 0) X hM pc_0 (by decide) q445 rfl g44 dX5_teaches_113 ?_
                  obtain ⟨q2, g45, hf⟩ := vQ_open hf
                  refine p_getN (k := 7) X hM pc_1 (by decide) q247 rfl g45 dX5_teaches_116 ?_
                  refine g_iload_n G dX5_teaches_119 rfl (lv_at hl 2 rfl) ?_
                  refine g_aload_n G dX5_teaches_120 rfl (lv_at hl 0 rfl) ?_
                  obtain ⟨p19, g46, hf⟩ := vA_open hf
                  refine p_get (k := 9) X hM pc_5 (by decide) q414 rfl g46 dX5_teaches_121 ?_
                  refine g_iload_n G dX5_teaches_124 rfl (lv_at hl 2 rfl) ?_
                  obtain ⟨v14, g47, hf⟩ := ob_open hf
                  refine p_iald X hM g47 dX5_teaches_125 ?_
                  obtain ⟨n2, e1, hfq⟩ := qS_open hf
                  clear hf; subst e1; have hf := hfq; clear hfq
                  obtain ⟨b3, hf⟩ := ckc_open hf
                  obtain ⟨r7, h23, g48, hf⟩ := bnd_open hf
                  refine p_callV_r (ci := 5) (As := [.ref n2, .int x2, .int v14]) (rest := []) X hM hl rfl b3 pcy_X5_holds q1322 q1324 qs41 (kX5_holds g48) rfl (Nat.le_of_ble_eq_true rfl) (Nat.le_of_ble_eq_true rfl) rfl dX5_teaches_126 (fun H locs hM => ?_)
                  refine g_if_eq (tgt := 136) G dX5_teaches_129 rfl (fun c10 => ?_) (fun c10 => ?_)
                  · have hf := it_pos c10 hf
                    exact J136 _ _ _ hf hM ls (lv_sub hl [0, 1, 2] rfl)
                  · have hf := it_neg c10 hf
                    exact J132 _ _ _ hf hM ls (lv_sub hl [0, 1, 2] rfl)
            · have hf := it_neg c6 hf
              refine g_goto (tgt := 158) G dX5_teaches_69 rfl ?_
              exact J158 _ _ _ hf hM ls (lv_sub hl [0, 1, 2] rfl)
        refine g_if_eq (tgt := 35) G dX5_teaches_28 rfl (fun c11 => ?_) (fun c11 => ?_)
        · have hf := it_pos c11 hf
          refine g_aload_n G dX5_teaches_35 rfl (lv_at hl 0 rfl) ?_
          refine g_iload_n G dX5_teaches_36 rfl (lv_at hl 2 rfl) ?_
          obtain ⟨b4, hf⟩ := ckc_open hf
          obtain ⟨r8, h24, g49, hf⟩ := bnd_open hf
          refine p_callV_r (ci := 5) (As := [.int x2]) (rest := [.int x2, .ref p8]) X hM hl rfl b4 pcy_X5_lesson q1438 q1319 q1320 (kX5_lesson g49) rfl (Nat.le_of_ble_eq_true rfl) (Nat.le_of_ble_eq_true rfl) rfl dX5_teaches_37 (fun H locs hM => ?_)
          exact J40 _ _ _ _ hf hM ls (lv_sub hl [0, 1, 2] rfl)
        · have hf := it_neg c11 hf
          refine g_iconst (v := (-1)) G dX5_teaches_31 rfl ?_
          refine g_goto (tgt := 40) G dX5_teaches_32 rfl ?_
          exact J40 _ _ _ _ hf hM ls (lv_sub hl [0, 1, 2] rfl)
  exact L7 FU _ _ _ _ hf hM ls (lv_sub hl [1, 2, 0] rfl)
theorem pcy_X5_examines : pcY yX5_examines cX5_examines 3 none 1 := ⟨q1442, q156, ⟨by decide +kernel, by decide +kernel, by decide +kernel⟩, Nat.le_of_ble_eq_true rfl⟩
noncomputable def fX5_examines_L2 (D : PD) (a0 : Nat) (a1 : Int32) (s2 : Int32 → PH → Option (PH)) (x1 : Int32) (h1 : PH) : Option (PH) :=
  vA (pF h1 a0 5 11) fun p1 =>
  ckc (pCls h1 p1) 0 <|
  bnd (fX0_people p1 h1) fun r1 h2 =>
  if r1 ≤ x1 then
    some h2
  else
    vI (pF h2 a0 5 1) fun v1 =>
    bnd (fX0_has (v1 ||| a1) x1 h2) fun r2 h3 =>
    jn (fun (h4 : PH) =>
      s2 (x1 + 1) h4) fun j119 =>
    if (bI r2) = 0 then
      vA (pF h3 a0 5 7) fun p2 =>
      ob (pLd h3 p2 0 x1) fun v2 =>
      if v2 = 0 then
        j119 h3
      else
        vA (pF h3 a0 5 11) fun p3 =>
        vA (pF h3 p3 0 0) fun p4 =>
        vQ (pF h3 p4 1 8) fun q1 =>
        jn (fun (h5 : PH) =>
          ckc (pCls h5 a0) 5 <|
          bnd (fX5_marks a0 x1 h5) fun r3 h6 =>
          vA (pF h6 a0 5 11) fun p5 =>
          vA (pF h6 p5 0 0) fun p6 =>
          vI (pF h6 p6 1 1) fun v3 =>
          if r3 < v3 then
            vA (pF h6 a0 5 7) fun p7 =>
            ob (pLd h6 p7 0 x1) fun v4 =>
            bnv (pSt h6 p7 0 x1 (v4 - 1)) fun h7 =>
            j119 h7
          else
            vI (pF h6 a0 5 1) fun v5 =>
            bnv (pPut h6 a0 5 1 (.int (v5 ||| ((1 : Int32) <<< (x1 &&& 31))))) fun h8 =>
            ckc (pCls h8 a0) 5 <|
            bnv (fX5_tells a0 x1 1 h8) fun h9 =>
            j119 h9) fun j70 =>
        qC q1 (
          j70 h3) fun n1 =>
          vA (pF h3 a0 5 11) fun p8 =>
          vA (pF h3 p8 0 0) fun p9 =>
          vQ (pF h3 p9 1 8) fun q2 =>
          qS q2 fun n2 =>
          ckc (pCls h3 a0) 5 <|
          bnd (fX5_holds D a0 n2 x1 (-1) h3) fun r4 h10 =>
          if (bI r4) = 0 then
            j119 h10
          else
            j70 h10
    else
      j119 h3
noncomputable def fX5_examines (D : PD) (a0 : Nat) (a1 : Int32) (h : PH) : Option (PH) :=
  fx (fX5_examines_L2 D a0 a1) (fun _ _ => none) FU 0 h
set_option maxHeartbeats 1000000 in
theorem kX5_examines {l : Launch} {D : PD} {A : Nat → Prop} {cap : Nat × Nat} {a0 : Nat} {a1 : Int32} {h h' : PH} (hf : fX5_examines D a0 a1 h = some h') : CMet l D A cap yX5_examines cX5_examines 3 none 96 [.ref a0, .int a1] h h' (none) := by
  unfold fX5_examines at hf
  refine p_head (own := RX5) (ini := false) (pn_X5 rfl) rfl (fun q => by cases q) (Nat.le_of_ble_eq_true rfl) (fun m Z cx sx H0 ls X hM hl => ?_)
  have G := X.g
  have hl : lv_has ls 3 [(0, .ref a0), (1, .int a1)] := hl
  refine g_iconst (v := 0) G dX5_examines_0 rfl ?_
  refine g_istore_n (i := 2) (lv' := [(2, .int 0), (0, .ref a0), (1, .int a1)]) G dX5_examines_1 rfl hl (Nat.le_of_ble_eq_true rfl) rfl (fun ls hl => ?_)
  have L2 : ∀ (n : Nat) (x1 : Int32) (h1 : PH) (H : Heap) (locs : List Loc), fx (fX5_examines_L2 D a0 a1) (fun _ _ => none) n x1 h1 = some h' → PI D A cap H0 h1 H locs → ∀ ls : Array Slot, lv_has ls 3 [(0, .ref a0), (1, .int a1), (2, .int x1)] → Z H locs (cx H) (sx H) (F0 m 2 ls []) := by
    intro n
    induction n with
    | zero => intro x1 h1 H locs hf; exact absurd hf (by intro q; cases q)
    | succ n ih2 =>
      intro x1 h1 H locs hf hM ls hl
      rw [fx_s] at hf
      generalize fx (fX5_examines_L2 D a0 a1) (fun _ _ => none) n = s2 at hf ih2
      unfold fX5_examines_L2 at hf
      refine g_iload_n G dX5_examines_2 rfl (lv_at hl 2 rfl) ?_
      refine g_aload_n G dX5_examines_3 rfl (lv_at hl 0 rfl) ?_
      obtain ⟨p1, g1, hf⟩ := vA_open hf
      refine p_get (k := 11) X hM pc_5 (by decide) q416 rfl g1 dX5_examines_4 ?_
      obtain ⟨b1, hf⟩ := ckc_open hf
      obtain ⟨r1, h2, g2, hf⟩ := bnd_open hf
      refine p_callVN_r (ci := 0) (As := []) (rest := [.int x1]) X hM hl rfl b1 pcy_X0_people q1206 q1208 qs34 (kX0_people g2) rfl (Nat.le_of_ble_eq_true rfl) (Nat.le_of_ble_eq_true rfl) rfl dX5_examines_7 (fun H locs hM => ?_)
      refine g_icmp_ge (tgt := 125) G dX5_examines_10 rfl (fun c1 => ?_) (fun c1 => ?_)
      · have hf := it_pos c1 hf
        exact p_vret X hM hf dX5_examines_125
      · have hf := it_neg c1 hf
        refine g_aload_n G dX5_examines_13 rfl (lv_at hl 0 rfl) ?_
        obtain ⟨v1, g3, hf⟩ := vI_open hf
        refine p_get (k := 1) X hM pc_5 (by decide) q398 rfl g3 dX5_examines_14 ?_
        refine g_iload_n G dX5_examines_17 rfl (lv_at hl 1 rfl) ?_
        refine g_ior G dX5_examines_18 ?_
        refine g_iload_n G dX5_examines_19 rfl (lv_at hl 2 rfl) ?_
        obtain ⟨r2, h3, g4, hf⟩ := bnd_open hf
        refine p_callSN_r (As := [.int (v1 ||| a1), .int x1]) (rest := []) X hM hl pcy_X0_has q1285 q914 (kX0_has g4) rfl (Nat.le_of_ble_eq_true rfl) (Nat.le_of_ble_eq_true rfl) rfl dX5_examines_20 (fun H locs hM => ?_)
        obtain ⟨j119, ej119, hf⟩ := jn_open hf
        have J119 : ∀ (h4 : PH) (H : Heap) (locs : List Loc), j119 h4 = some h' → PI D A cap H0 h4 H locs → ∀ ls : Array Slot, lv_has ls 3 [(0, .ref a0), (1, .int a1), (2, .int x1)] → Z H locs (cx H) (sx H) (F0 m 119 ls []) := by
          intro h4 H locs hf hM ls hl
          rw [ej119] at hf
          refine g_iinc (v := x1 + 1) (lv' := [(2, .int (x1 + 1)), (0, .ref a0), (1, .int a1)]) G dX5_examines_119 hl (k := 2) rfl rfl (Nat.le_of_ble_eq_true rfl) rfl (fun ls hl => ?_)
          refine g_goto (tgt := 2) G dX5_examines_122 rfl ?_
          exact ih2 _ _ _ _ hf hM ls (lv_sub hl [1, 2, 0] rfl)
        refine g_if_ne (tgt := 119) G dX5_examines_23 rfl (fun c2 => ?_) (fun c2 => ?_)
        · have hf := it_neg c2 hf
          exact J119 _ _ _ hf hM ls (lv_sub hl [0, 1, 2] rfl)
        · have hf := it_pos c2 hf
          refine g_aload_n G dX5_examines_26 rfl (lv_at hl 0 rfl) ?_
          obtain ⟨p2, g5, hf⟩ := vA_open hf
          refine p_get (k := 7) X hM pc_5 (by decide) q410 rfl g5 dX5_examines_27 ?_
          refine g_iload_n G dX5_examines_30 rfl (lv_at hl 2 rfl) ?_
          obtain ⟨v2, g6, hf⟩ := ob_open hf
          refine p_iald X hM g6 dX5_examines_31 ?_
          refine g_if_eq (tgt := 119) G dX5_examines_32 rfl (fun c3 => ?_) (fun c3 => ?_)
          · have hf := it_pos c3 hf
            exact J119 _ _ _ hf hM ls (lv_sub hl [0, 1, 2] rfl)
          · have hf := it_neg c3 hf
            refine g_aload_n G dX5_examines_35 rfl (lv_at hl 0 rfl) ?_
            obtain ⟨p3, g7, hf⟩ := vA_open hf
            refine p_get (k := 11) X hM pc_5 (by decide) q416 rfl g7 dX5_examines_36 ?_
            obtain ⟨p4, g8, hf⟩ := vA_open hf
            refine p_getN (k := 0) X hM pc_0 (by decide) q445 rfl g8 dX5_examines_39 ?_
            obtain ⟨q1, g9, hf⟩ := vQ_open hf
            refine p_getN (k := 8) X hM pc_1 (by decide) q249 rfl g9 dX5_examines_42 ?_
            obtain ⟨j70, ej70, hf⟩ := jn_open hf
            have J70 : ∀ (h5 : PH) (H : Heap) (locs : List Loc), j70 h5 = some h' → PI D A cap H0 h5 H locs → ∀ ls : Array Slot, lv_has ls 3 [(0, .ref a0), (1, .int a1), (2, .int x1)] → Z H locs (cx H) (sx H) (F0 m 70 ls []) := by
              intro h5 H locs hf hM ls hl
              rw [ej70] at hf
              refine g_aload_n G dX5_examines_70 rfl (lv_at hl 0 rfl) ?_
              refine g_iload_n G dX5_examines_71 rfl (lv_at hl 2 rfl) ?_
              obtain ⟨b2, hf⟩ := ckc_open hf
              obtain ⟨r3, h6, g10, hf⟩ := bnd_open hf
              refine p_callV_r (ci := 5) (As := [.int x1]) (rest := []) X hM hl rfl b2 pcy_X5_marks q1328 q1308 q1309 (kX5_marks g10) rfl (Nat.le_of_ble_eq_true rfl) (Nat.le_of_ble_eq_true rfl) rfl dX5_examines_72 (fun H locs hM => ?_)
              refine g_aload_n G dX5_examines_75 rfl (lv_at hl 0 rfl) ?_
              obtain ⟨p5, g11, hf⟩ := vA_open hf
              refine p_get (k := 11) X hM pc_5 (by decide) q416 rfl g11 dX5_examines_76 ?_
              obtain ⟨p6, g12, hf⟩ := vA_open hf
              refine p_getN (k := 0) X hM pc_0 (by decide) q445 rfl g12 dX5_examines_79 ?_
              obtain ⟨v3, g13, hf⟩ := vI_open hf
              refine p_getN (k := 1) X hM pc_1 (by decide) q229 rfl g13 dX5_examines_82 ?_
              refine g_icmp_lt (tgt := 109) G dX5_examines_85 rfl (fun c5 => ?_) (fun c5 => ?_)
              · have hf := it_pos c5 hf
                refine g_aload_n G dX5_examines_109 rfl (lv_at hl 0 rfl) ?_
                obtain ⟨p7, g14, hf⟩ := vA_open hf
                refine p_get (k := 7) X hM pc_5 (by decide) q410 rfl g14 dX5_examines_110 ?_
                refine g_iload_n G dX5_examines_113 rfl (lv_at hl 2 rfl) ?_
                refine g_dup2_11 G dX5_examines_114 rfl rfl ?_
                obtain ⟨v4, g15, hf⟩ := ob_open hf
                refine p_iald X hM g15 dX5_examines_115 ?_
                refine g_iconst (v := 1) G dX5_examines_116 rfl ?_
                refine g_isub G dX5_examines_117 ?_
                obtain ⟨h7, g16, hf⟩ := bnv_open hf
                refine p_iast X hM g16 dX5_examines_118 (fun H locs hM => ?_)
                exact J119 _ _ _ hf hM ls (lv_sub hl [0, 1, 2] rfl)
              · have hf := it_neg c5 hf
                refine g_aload_n G dX5_examines_88 rfl (lv_at hl 0 rfl) ?_
                refine g_dup G dX5_examines_89 rfl ?_
                obtain ⟨v5, g17, hf⟩ := vI_open hf
                refine p_get (k := 1) X hM pc_5 (by decide) q398 rfl g17 dX5_examines_90 ?_
                refine g_iconst (v := 1) G dX5_examines_93 rfl ?_
                refine g_iload_n G dX5_examines_94 rfl (lv_at hl 2 rfl) ?_
                refine g_ishl G dX5_examines_95 ?_
                refine g_ior G dX5_examines_96 ?_
                obtain ⟨h8, g18, hf⟩ := bnv_open hf
                refine p_put (k := 1) X hM pc_5 (by decide) q398 rfl rfl rfl rfl g18 dX5_examines_97 (fun H locs hM => ?_)
                refine g_aload_n G dX5_examines_100 rfl (lv_at hl 0 rfl) ?_
                refine g_iload_n G dX5_examines_101 rfl (lv_at hl 2 rfl) ?_
                refine g_iconst (v := 1) G dX5_examines_102 rfl ?_
                obtain ⟨b3, hf⟩ := ckc_open hf
                obtain ⟨h9, g19, hf⟩ := bnv_open hf
                refine p_callV_v (ci := 5) (As := [.int x1, .int 1]) (rest := []) X hM hl rfl b3 pcy_X5_tells q1443 q1445 qs46 (kX5_tells g19) rfl (Nat.le_of_ble_eq_true rfl) (Nat.le_of_ble_eq_true rfl) rfl dX5_examines_103 (fun H locs hM => ?_)
                refine g_goto (tgt := 119) G dX5_examines_106 rfl ?_
                exact J119 _ _ _ hf hM ls (lv_sub hl [0, 1, 2] rfl)
            refine g_ifnullQ (tgt := 70) G dX5_examines_45 rfl (fun c4 => ?_) (fun n1 c4 => ?_)
            · subst c4
              have hf := qC_none hf
              exact J70 _ _ _ hf hM ls (lv_sub hl [0, 1, 2] rfl)
            · subst c4
              have hf := qC_some hf
              refine g_aload_n G dX5_examines_48 rfl (lv_at hl 0 rfl) ?_
              refine g_aload_n G dX5_examines_49 rfl (lv_at hl 0 rfl) ?_
              obtain ⟨p8, g20, hf⟩ := vA_open hf
              refine p_get (k := 11) X hM pc_5 (by decide) q416 rfl g20 dX5_examines_50 ?_
              obtain ⟨p9, g21, hf⟩ := vA_open hf
              refine p_getN (k := 0) X hM pc_0 (by decide) q445 rfl g21 dX5_examines_53 ?_
              obtain ⟨q2, g22, hf⟩ := vQ_open hf
              refine p_getN (k := 8) X hM pc_1 (by decide) q249 rfl g22 dX5_examines_56 ?_
              refine g_iload_n G dX5_examines_59 rfl (lv_at hl 2 rfl) ?_
              refine g_iconst (v := (-1)) G dX5_examines_60 rfl ?_
              obtain ⟨n2, e1, hfq⟩ := qS_open hf
              clear hf; subst e1; have hf := hfq; clear hfq
              obtain ⟨b4, hf⟩ := ckc_open hf
              obtain ⟨r4, h10, g23, hf⟩ := bnd_open hf
              refine p_callV_r (ci := 5) (As := [.ref n2, .int x1, .int (-1)]) (rest := []) X hM hl rfl b4 pcy_X5_holds q1322 q1324 qs41 (kX5_holds g23) rfl (Nat.le_of_ble_eq_true rfl) (Nat.le_of_ble_eq_true rfl) rfl dX5_examines_61 (fun H locs hM => ?_)
              refine g_if_ne (tgt := 70) G dX5_examines_64 rfl (fun c6 => ?_) (fun c6 => ?_)
              · have hf := it_neg c6 hf
                exact J70 _ _ _ hf hM ls (lv_sub hl [0, 1, 2] rfl)
              · have hf := it_pos c6 hf
                refine g_goto (tgt := 119) G dX5_examines_67 rfl ?_
                exact J119 _ _ _ hf hM ls (lv_sub hl [0, 1, 2] rfl)
  exact L2 FU _ _ _ _ hf hM ls (lv_sub hl [1, 2, 0] rfl)
theorem pcy_X5_passes : pcY yX5_passes cX5_passes 5 (Option.some Jvm.ClassFile.FieldType.int) 1 := ⟨q1433, q156, ⟨by decide +kernel, by decide +kernel, by decide +kernel⟩, Nat.le_of_ble_eq_true rfl⟩
noncomputable def fX5_passes_L97 (a0 : Nat) (x1 : Int32) (k138 : PH → Option (Int32 × PH)) (s97 : Int32 → PH → Option (Int32 × PH)) (x2 : Int32) (h7 : PH) : Option (Int32 × PH) :=
  vA (pF h7 a0 5 11) fun p1 =>
  ckc (pCls h7 p1) 0 <|
  bnd (fX0_people p1 h7) fun r1 h8 =>
  if r1 ≤ x2 then
    k138 h8
  else
    vI (pF h8 a0 5 2) fun v5 =>
    bnd (fX0_has (x1 &&& (v5 ^^^ (-1))) x2 h8) fun r2 h9 =>
    jn (fun (h10 : PH) =>
      s97 (x2 + 1) h10) fun j132 =>
    if (bI r2) = 0 then
      j132 h9
    else
      ckc (pCls h9 a0) 5 <|
      bnv (fX5_tells a0 x2 2 h9) fun h11 =>
      j132 h11
noncomputable def fX5_passes_L20 (a0 : Nat) (k94 : Int32 → PH → Option (Int32 × PH)) (s20 : Int32 → Int32 → PH → Option (Int32 × PH)) (x3 : Int32) (x4 : Int32) (h12 : PH) : Option (Int32 × PH) :=
  vA (pF h12 a0 5 11) fun p2 =>
  ckc (pCls h12 p2) 0 <|
  bnd (fX0_people p2 h12) fun r3 h13 =>
  if r3 ≤ x4 then
    k94 x3 h13
  else
    vI (pF h13 a0 5 1) fun v6 =>
    bnd (fX0_has v6 x4 h13) fun r4 h14 =>
    jn (fun (x5 : Int32) (h15 : PH) =>
      s20 x5 (x4 + 1) h15) fun j88 =>
    if (bI r4) = 0 then
      j88 x3 h14
    else
      vA (pF h14 a0 5 4) fun p3 =>
      ob (pLd h14 p3 0 x4) fun v7 =>
      if v7 = ((-1) : Int32) then
        j88 x3 h14
      else
        vA (pF h14 a0 5 4) fun p4 =>
        vA (pF h14 a0 5 4) fun p5 =>
        ob (pLd h14 p5 0 x4) fun v8 =>
        ob (pLd h14 p4 0 v8) fun v9 =>
        if v9 = ((-1) : Int32) then
          j88 x3 h14
        else
          vA (pF h14 a0 5 4) fun p6 =>
          vA (pF h14 a0 5 4) fun p7 =>
          ob (pLd h14 p7 0 x4) fun v10 =>
          ob (pLd h14 p6 0 v10) fun v11 =>
          j88 (x3 ||| ((1 : Int32) <<< (v11 &&& 31))) h14
noncomputable def fX5_passes (D : PD) (a0 : Nat) (a1 : Int32) (h : PH) : Option (Int32 × PH) :=
  vI (pF h a0 5 1) fun v1 =>
  ckc (pCls h a0) 5 <|
  bnv (fX5_teaches D a0 a1 h) fun h1 =>
  ckc (pCls h1 a0) 5 <|
  bnv (fX5_examines D a0 a1 h1) fun h2 =>
  jn (fun (x1 : Int32) (h3 : PH) =>
    jn (fun (h4 : PH) =>
      vI (pF h4 a0 5 2) fun v2 =>
      bnv (pPut h4 a0 5 2 (.int (v2 ||| x1))) fun h5 =>
      vI (pF h5 a0 5 0) fun v3 =>
      bnv (pPut h5 a0 5 0 (.int (v3 + 1))) fun h6 =>
      vI (pF h6 a0 5 1) fun v4 =>
      some ((v4 &&& (v1 ^^^ (-1))), h6)) fun k138 =>
    fx (fX5_passes_L97 a0 x1 k138) (fun _ _ => none) FU 0 h3) fun k94 =>
  fx (fX5_passes_L20 a0 k94) (fun _ _ _ => none) FU 0 0 h2
set_option maxHeartbeats 1000000 in
theorem kX5_passes {l : Launch} {D : PD} {A : Nat → Prop} {cap : Nat × Nat} {a0 : Nat} {a1 : Int32} {h h' : PH} {r : Int32} (hf : fX5_passes D a0 a1 h = some (r, h')) : CMet l D A cap yX5_passes cX5_passes 5 (Option.some Jvm.ClassFile.FieldType.int) 98 [.ref a0, .int a1] h h' (some (.int r)) := by
  unfold fX5_passes at hf
  refine p_head (own := RX5) (ini := false) (pn_X5 rfl) rfl (fun q => by cases q) (Nat.le_of_ble_eq_true rfl) (fun m Z cx sx H0 ls X hM hl => ?_)
  have G := X.g
  have hl : lv_has ls 5 [(0, .ref a0), (1, .int a1)] := hl
  refine g_aload_n G dX5_passes_0 rfl (lv_at hl 0 rfl) ?_
  obtain ⟨v1, g1, hf⟩ := vI_open hf
  refine p_get (k := 1) X hM pc_5 (by decide) q398 rfl g1 dX5_passes_1 ?_
  refine g_istore_n (i := 2) (lv' := [(2, .int v1), (0, .ref a0), (1, .int a1)]) G dX5_passes_4 rfl hl (Nat.le_of_ble_eq_true rfl) rfl (fun ls hl => ?_)
  refine g_aload_n G dX5_passes_5 rfl (lv_at hl 1 rfl) ?_
  refine g_iload_n G dX5_passes_6 rfl (lv_at hl 2 rfl) ?_
  obtain ⟨b1, hf⟩ := ckc_open hf
  obtain ⟨h1, g2, hf⟩ := bnv_open hf
  refine p_callV_v (ci := 5) (As := [.int a1]) (rest := []) X hM hl rfl b1 pcy_X5_teaches q1434 q1436 qs44 (kX5_teaches g2) rfl (Nat.le_of_ble_eq_true rfl) (Nat.le_of_ble_eq_true rfl) rfl dX5_passes_7 (fun H locs hM => ?_)
  refine g_aload_n G dX5_passes_10 rfl (lv_at hl 1 rfl) ?_
  refine g_iload_n G dX5_passes_11 rfl (lv_at hl 2 rfl) ?_
  obtain ⟨b2, hf⟩ := ckc_open hf
  obtain ⟨h2, g3, hf⟩ := bnv_open hf
  refine p_callV_v (ci := 5) (As := [.int a1]) (rest := []) X hM hl rfl b2 pcy_X5_examines q1439 q1441 qs45 (kX5_examines g3) rfl (Nat.le_of_ble_eq_true rfl) (Nat.le_of_ble_eq_true rfl) rfl dX5_passes_12 (fun H locs hM => ?_)
  refine g_iconst (v := 0) G dX5_passes_15 rfl ?_
  refine g_istore_n (i := 3) (lv' := [(3, .int 0), (2, .int v1), (0, .ref a0), (1, .int a1)]) G dX5_passes_16 rfl hl (Nat.le_of_ble_eq_true rfl) rfl (fun ls hl => ?_)
  refine g_iconst (v := 0) G dX5_passes_17 rfl ?_
  refine g_istore (lv' := [(4, .int 0), (3, .int 0), (2, .int v1), (0, .ref a0), (1, .int a1)]) G dX5_passes_18 hl (Nat.le_of_ble_eq_true rfl) rfl (fun ls hl => ?_)
  obtain ⟨k94, ek94, hf⟩ := jn_open hf
  have K94 : ∀ (x1 : Int32) (h3 : PH) (H : Heap) (locs : List Loc), k94 x1 h3 = some (r, h') → PI D A cap H0 h3 H locs → ∀ ls : Array Slot, lv_has ls 5 [(0, .ref a0), (2, .int v1), (3, .int x1)] → Z H locs (cx H) (sx H) (F0 m 94 ls []) := by
    intro x1 h3 H locs hf hM ls hl
    rw [ek94] at hf
    refine g_iconst (v := 0) G dX5_passes_94 rfl ?_
    refine g_istore (lv' := [(4, .int 0), (0, .ref a0), (2, .int v1), (3, .int x1)]) G dX5_passes_95 hl (Nat.le_of_ble_eq_true rfl) rfl (fun ls hl => ?_)
    obtain ⟨k138, ek138, hf⟩ := jn_open hf
    have K138 : ∀ (h4 : PH) (H : Heap) (locs : List Loc), k138 h4 = some (r, h') → PI D A cap H0 h4 H locs → ∀ ls : Array Slot, lv_has ls 5 [(0, .ref a0), (2, .int v1), (3, .int x1)] → Z H locs (cx H) (sx H) (F0 m 138 ls []) := by
      intro h4 H locs hf hM ls hl
      rw [ek138] at hf
      refine g_aload_n G dX5_passes_138 rfl (lv_at hl 0 rfl) ?_
      refine g_dup G dX5_passes_139 rfl ?_
      obtain ⟨v2, g4, hf⟩ := vI_open hf
      refine p_get (k := 2) X hM pc_5 (by decide) q400 rfl g4 dX5_passes_140 ?_
      refine g_iload_n G dX5_passes_143 rfl (lv_at hl 2 rfl) ?_
      refine g_ior G dX5_passes_144 ?_
      obtain ⟨h5, g5, hf⟩ := bnv_open hf
      refine p_put (k := 2) X hM pc_5 (by decide) q400 rfl rfl rfl rfl g5 dX5_passes_145 (fun H locs hM => ?_)
      refine g_aload_n G dX5_passes_148 rfl (lv_at hl 0 rfl) ?_
      refine g_dup G dX5_passes_149 rfl ?_
      obtain ⟨v3, g6, hf⟩ := vI_open hf
      refine p_get (k := 0) X hM pc_5 (by decide) q396 rfl g6 dX5_passes_150 ?_
      refine g_iconst (v := 1) G dX5_passes_153 rfl ?_
      refine g_iadd G dX5_passes_154 ?_
      obtain ⟨h6, g7, hf⟩ := bnv_open hf
      refine p_put (k := 0) X hM pc_5 (by decide) q396 rfl rfl rfl rfl g7 dX5_passes_155 (fun H locs hM => ?_)
      refine g_aload_n G dX5_passes_158 rfl (lv_at hl 0 rfl) ?_
      obtain ⟨v4, g8, hf⟩ := vI_open hf
      refine p_get (k := 1) X hM pc_5 (by decide) q398 rfl g8 dX5_passes_159 ?_
      refine g_iload_n G dX5_passes_162 rfl (lv_at hl 1 rfl) ?_
      refine g_iconst (v := (-1)) G dX5_passes_163 rfl ?_
      refine g_ixor G dX5_passes_164 ?_
      refine g_iand G dX5_passes_165 ?_
      exact p_iret X hM hf dX5_passes_166
    have L97 : ∀ (n : Nat) (x2 : Int32) (h7 : PH) (H : Heap) (locs : List Loc), fx (fX5_passes_L97 a0 x1 k138) (fun _ _ => none) n x2 h7 = some (r, h') → PI D A cap H0 h7 H locs → ∀ ls : Array Slot, lv_has ls 5 [(0, .ref a0), (2, .int v1), (3, .int x1), (4, .int x2)] → Z H locs (cx H) (sx H) (F0 m 97 ls []) := by
      intro n
      induction n with
      | zero => intro x2 h7 H locs hf; exact absurd hf (by intro q; cases q)
      | succ n ih97 =>
        intro x2 h7 H locs hf hM ls hl
        rw [fx_s] at hf
        generalize fx (fX5_passes_L97 a0 x1 k138) (fun _ _ => none) n = s97 at hf ih97
        unfold fX5_passes_L97 at hf
        refine g_iload G dX5_passes_97 (lv_at hl 3 rfl) ?_
        refine g_aload_n G dX5_passes_99 rfl (lv_at hl 0 rfl) ?_
        obtain ⟨p1, g9, hf⟩ := vA_open hf
        refine p_get (k := 11) X hM pc_5 (by decide) q416 rfl g9 dX5_passes_100 ?_
        obtain ⟨b3, hf⟩ := ckc_open hf
        obtain ⟨r1, h8, g10, hf⟩ := bnd_open hf
        refine p_callVN_r (ci := 0) (As := []) (rest := [.int x2]) X hM hl rfl b3 pcy_X0_people q1206 q1208 qs34 (kX0_people g10) rfl (Nat.le_of_ble_eq_true rfl) (Nat.le_of_ble_eq_true rfl) rfl dX5_passes_103 (fun H locs hM => ?_)
        refine g_icmp_ge (tgt := 138) G dX5_passes_106 rfl (fun c1 => ?_) (fun c1 => ?_)
        · have hf := it_pos c1 hf
          exact K138 _ _ _ hf hM ls (lv_sub hl [0, 1, 2] rfl)
        · have hf := it_neg c1 hf
          refine g_iload_n G dX5_passes_109 rfl (lv_at hl 2 rfl) ?_
          refine g_aload_n G dX5_passes_110 rfl (lv_at hl 0 rfl) ?_
          obtain ⟨v5, g11, hf⟩ := vI_open hf
          refine p_get (k := 2) X hM pc_5 (by decide) q400 rfl g11 dX5_passes_111 ?_
          refine g_iconst (v := (-1)) G dX5_passes_114 rfl ?_
          refine g_ixor G dX5_passes_115 ?_
          refine g_iand G dX5_passes_116 ?_
          refine g_iload G dX5_passes_117 (lv_at hl 3 rfl) ?_
          obtain ⟨r2, h9, g12, hf⟩ := bnd_open hf
          refine p_callSN_r (As := [.int (x1 &&& (v5 ^^^ (-1))), .int x2]) (rest := []) X hM hl pcy_X0_has q1285 q914 (kX0_has g12) rfl (Nat.le_of_ble_eq_true rfl) (Nat.le_of_ble_eq_true rfl) rfl dX5_passes_119 (fun H locs hM => ?_)
          obtain ⟨j132, ej132, hf⟩ := jn_open hf
          have J132 : ∀ (h10 : PH) (H : Heap) (locs : List Loc), j132 h10 = some (r, h') → PI D A cap H0 h10 H locs → ∀ ls : Array Slot, lv_has ls 5 [(0, .ref a0), (2, .int v1), (3, .int x1), (4, .int x2)] → Z H locs (cx H) (sx H) (F0 m 132 ls []) := by
            intro h10 H locs hf hM ls hl
            rw [ej132] at hf
            refine g_iinc (v := x2 + 1) (lv' := [(4, .int (x2 + 1)), (0, .ref a0), (2, .int v1), (3, .int x1)]) G dX5_passes_132 hl (k := 3) rfl rfl (Nat.le_of_ble_eq_true rfl) rfl (fun ls hl => ?_)
            refine g_goto (tgt := 97) G dX5_passes_135 rfl ?_
            exact ih97 _ _ _ _ hf hM ls (lv_sub hl [1, 2, 3, 0] rfl)
          refine g_if_eq (tgt := 132) G dX5_passes_122 rfl (fun c2 => ?_) (fun c2 => ?_)
          · have hf := it_pos c2 hf
            exact J132 _ _ _ hf hM ls (lv_sub hl [0, 1, 2, 3] rfl)
          · have hf := it_neg c2 hf
            refine g_aload_n G dX5_passes_125 rfl (lv_at hl 0 rfl) ?_
            refine g_iload G dX5_passes_126 (lv_at hl 3 rfl) ?_
            refine g_iconst (v := 2) G dX5_passes_128 rfl ?_
            obtain ⟨b4, hf⟩ := ckc_open hf
            obtain ⟨h11, g13, hf⟩ := bnv_open hf
            refine p_callV_v (ci := 5) (As := [.int x2, .int 2]) (rest := []) X hM hl rfl b4 pcy_X5_tells q1443 q1445 qs46 (kX5_tells g13) rfl (Nat.le_of_ble_eq_true rfl) (Nat.le_of_ble_eq_true rfl) rfl dX5_passes_129 (fun H locs hM => ?_)
            exact J132 _ _ _ hf hM ls (lv_sub hl [0, 1, 2, 3] rfl)
    exact L97 FU _ _ _ _ hf hM ls (lv_sub hl [1, 2, 3, 0] rfl)
  have L20 : ∀ (n : Nat) (x3 : Int32) (x4 : Int32) (h12 : PH) (H : Heap) (locs : List Loc), fx (fX5_passes_L20 a0 k94) (fun _ _ _ => none) n x3 x4 h12 = some (r, h') → PI D A cap H0 h12 H locs → ∀ ls : Array Slot, lv_has ls 5 [(0, .ref a0), (2, .int v1), (3, .int x3), (4, .int x4)] → Z H locs (cx H) (sx H) (F0 m 20 ls []) := by
    intro n
    induction n with
    | zero => intro x3 x4 h12 H locs hf; exact absurd hf (by intro q; cases q)
    | succ n ih20 =>
      intro x3 x4 h12 H locs hf hM ls hl
      rw [fx_s] at hf
      generalize fx (fX5_passes_L20 a0 k94) (fun _ _ _ => none) n = s20 at hf ih20
      unfold fX5_passes_L20 at hf
      refine g_iload G dX5_passes_20 (lv_at hl 3 rfl) ?_
      refine g_aload_n G dX5_passes_22 rfl (lv_at hl 0 rfl) ?_
      obtain ⟨p2, g14, hf⟩ := vA_open hf
      refine p_get (k := 11) X hM pc_5 (by decide) q416 rfl g14 dX5_passes_23 ?_
      obtain ⟨b5, hf⟩ := ckc_open hf
      obtain ⟨r3, h13, g15, hf⟩ := bnd_open hf
      refine p_callVN_r (ci := 0) (As := []) (rest := [.int x4]) X hM hl rfl b5 pcy_X0_people q1206 q1208 qs34 (kX0_people g15) rfl (Nat.le_of_ble_eq_true rfl) (Nat.le_of_ble_eq_true rfl) rfl dX5_passes_26 (fun H locs hM => ?_)
      refine g_icmp_ge (tgt := 94) G dX5_passes_29 rfl (fun c3 => ?_) (fun c3 => ?_)
      · have hf := it_pos c3 hf
        exact K94 _ _ _ _ hf hM ls (lv_sub hl [0, 1, 2] rfl)
      · have hf := it_neg c3 hf
        refine g_aload_n G dX5_passes_32 rfl (lv_at hl 0 rfl) ?_
        obtain ⟨v6, g16, hf⟩ := vI_open hf
        refine p_get (k := 1) X hM pc_5 (by decide) q398 rfl g16 dX5_passes_33 ?_
        refine g_iload G dX5_passes_36 (lv_at hl 3 rfl) ?_
        obtain ⟨r4, h14, g17, hf⟩ := bnd_open hf
        refine p_callSN_r (As := [.int v6, .int x4]) (rest := []) X hM hl pcy_X0_has q1285 q914 (kX0_has g17) rfl (Nat.le_of_ble_eq_true rfl) (Nat.le_of_ble_eq_true rfl) rfl dX5_passes_38 (fun H locs hM => ?_)
        obtain ⟨j88, ej88, hf⟩ := jn_open hf
        have J88 : ∀ (x5 : Int32) (h15 : PH) (H : Heap) (locs : List Loc), j88 x5 h15 = some (r, h') → PI D A cap H0 h15 H locs → ∀ ls : Array Slot, lv_has ls 5 [(0, .ref a0), (2, .int v1), (3, .int x5), (4, .int x4)] → Z H locs (cx H) (sx H) (F0 m 88 ls []) := by
          intro x5 h15 H locs hf hM ls hl
          rw [ej88] at hf
          refine g_iinc (v := x4 + 1) (lv' := [(4, .int (x4 + 1)), (0, .ref a0), (2, .int v1), (3, .int x5)]) G dX5_passes_88 hl (k := 3) rfl rfl (Nat.le_of_ble_eq_true rfl) rfl (fun ls hl => ?_)
          refine g_goto (tgt := 20) G dX5_passes_91 rfl ?_
          exact ih20 _ _ _ _ _ hf hM ls (lv_sub hl [1, 2, 3, 0] rfl)
        refine g_if_eq (tgt := 88) G dX5_passes_41 rfl (fun c4 => ?_) (fun c4 => ?_)
        · have hf := it_pos c4 hf
          exact J88 _ _ _ _ hf hM ls (lv_sub hl [0, 1, 2, 3] rfl)
        · have hf := it_neg c4 hf
          refine g_aload_n G dX5_passes_44 rfl (lv_at hl 0 rfl) ?_
          obtain ⟨p3, g18, hf⟩ := vA_open hf
          refine p_get (k := 4) X hM pc_5 (by decide) q404 rfl g18 dX5_passes_45 ?_
          refine g_iload G dX5_passes_48 (lv_at hl 3 rfl) ?_
          obtain ⟨v7, g19, hf⟩ := ob_open hf
          refine p_iald X hM g19 dX5_passes_50 ?_
          refine g_iconst (v := (-1)) G dX5_passes_51 rfl ?_
          refine g_icmp_eq (tgt := 88) G dX5_passes_52 rfl (fun c5 => ?_) (fun c5 => ?_)
          · have hf := it_pos c5 hf
            exact J88 _ _ _ _ hf hM ls (lv_sub hl [0, 1, 2, 3] rfl)
          · have hf := it_neg c5 hf
            refine g_aload_n G dX5_passes_55 rfl (lv_at hl 0 rfl) ?_
            obtain ⟨p4, g20, hf⟩ := vA_open hf
            refine p_get (k := 4) X hM pc_5 (by decide) q404 rfl g20 dX5_passes_56 ?_
            refine g_aload_n G dX5_passes_59 rfl (lv_at hl 0 rfl) ?_
            obtain ⟨p5, g21, hf⟩ := vA_open hf
            refine p_get (k := 4) X hM pc_5 (by decide) q404 rfl g21 dX5_passes_60 ?_
            refine g_iload G dX5_passes_63 (lv_at hl 3 rfl) ?_
            obtain ⟨v8, g22, hf⟩ := ob_open hf
            refine p_iald X hM g22 dX5_passes_65 ?_
            obtain ⟨v9, g23, hf⟩ := ob_open hf
            refine p_iald X hM g23 dX5_passes_66 ?_
            refine g_iconst (v := (-1)) G dX5_passes_67 rfl ?_
            refine g_icmp_eq (tgt := 88) G dX5_passes_68 rfl (fun c6 => ?_) (fun c6 => ?_)
            · have hf := it_pos c6 hf
              exact J88 _ _ _ _ hf hM ls (lv_sub hl [0, 1, 2, 3] rfl)
            · have hf := it_neg c6 hf
              refine g_iload_n G dX5_passes_71 rfl (lv_at hl 2 rfl) ?_
              refine g_iconst (v := 1) G dX5_passes_72 rfl ?_
              refine g_aload_n G dX5_passes_73 rfl (lv_at hl 0 rfl) ?_
              obtain ⟨p6, g24, hf⟩ := vA_open hf
              refine p_get (k := 4) X hM pc_5 (by decide) q404 rfl g24 dX5_passes_74 ?_
              refine g_aload_n G dX5_passes_77 rfl (lv_at hl 0 rfl) ?_
              obtain ⟨p7, g25, hf⟩ := vA_open hf
              refine p_get (k := 4) X hM pc_5 (by decide) q404 rfl g25 dX5_passes_78 ?_
              refine g_iload G dX5_passes_81 (lv_at hl 3 rfl) ?_
              obtain ⟨v10, g26, hf⟩ := ob_open hf
              refine p_iald X hM g26 dX5_passes_83 ?_
              obtain ⟨v11, g27, hf⟩ := ob_open hf
              refine p_iald X hM g27 dX5_passes_84 ?_
              refine g_ishl G dX5_passes_85 ?_
              refine g_ior G dX5_passes_86 ?_
              refine g_istore_n (i := 3) (lv' := [(3, .int (x3 ||| ((1 : Int32) <<< (v11 &&& 31)))), (0, .ref a0), (2, .int v1), (4, .int x4)]) G dX5_passes_87 rfl hl (Nat.le_of_ble_eq_true rfl) rfl (fun ls hl => ?_)
              exact J88 _ _ _ _ hf hM ls (lv_sub hl [1, 2, 0, 3] rfl)
  exact L20 FU _ _ _ _ _ hf hM ls (lv_sub hl [3, 2, 1, 0] rfl)
theorem pcy_X5_years : pcY yX5_years cX5_years 3 (Option.some (Jvm.ClassFile.FieldType.object "PupilsPupil$State")) 1 := ⟨q1429, q156, ⟨by decide +kernel, by decide +kernel, by decide +kernel⟩, Nat.le_of_ble_eq_true rfl⟩
noncomputable def fX5_years_L2 (D : PD) (a0 : Nat) (a1 : Int32) (s2 : Int32 → PH → Option (Nat × PH)) (x1 : Int32) (h1 : PH) : Option (Nat × PH) :=
  if a1 ≤ x1 then
    some (a0, h1)
  else
    ckc (pCls h1 a0) 5 <|
    bnd (fX5_passes D a0 0 h1) fun r1 h2 =>
    s2 (x1 + 1) h2
noncomputable def fX5_years (D : PD) (a0 : Nat) (a1 : Int32) (h : PH) : Option (Nat × PH) :=
  fx (fX5_years_L2 D a0 a1) (fun _ _ => none) FU 0 h
set_option maxHeartbeats 1000000 in
theorem kX5_years {l : Launch} {D : PD} {A : Nat → Prop} {cap : Nat × Nat} {a0 : Nat} {a1 : Int32} {h h' : PH} {r : Nat} (hf : fX5_years D a0 a1 h = some (r, h')) : CMet l D A cap yX5_years cX5_years 3 (Option.some (Jvm.ClassFile.FieldType.object "PupilsPupil$State")) 99 [.ref a0, .int a1] h h' (some (.ref r)) := by
  unfold fX5_years at hf
  refine p_head (own := RX5) (ini := false) (pn_X5 rfl) rfl (fun q => by cases q) (Nat.le_of_ble_eq_true rfl) (fun m Z cx sx H0 ls X hM hl => ?_)
  have G := X.g
  have hl : lv_has ls 3 [(0, .ref a0), (1, .int a1)] := hl
  refine g_iconst (v := 0) G dX5_years_0 rfl ?_
  refine g_istore_n (i := 2) (lv' := [(2, .int 0), (0, .ref a0), (1, .int a1)]) G dX5_years_1 rfl hl (Nat.le_of_ble_eq_true rfl) rfl (fun ls hl => ?_)
  have L2 : ∀ (n : Nat) (x1 : Int32) (h1 : PH) (H : Heap) (locs : List Loc), fx (fX5_years_L2 D a0 a1) (fun _ _ => none) n x1 h1 = some (r, h') → PI D A cap H0 h1 H locs → ∀ ls : Array Slot, lv_has ls 3 [(0, .ref a0), (1, .int a1), (2, .int x1)] → Z H locs (cx H) (sx H) (F0 m 2 ls []) := by
    intro n
    induction n with
    | zero => intro x1 h1 H locs hf; exact absurd hf (by intro q; cases q)
    | succ n ih2 =>
      intro x1 h1 H locs hf hM ls hl
      rw [fx_s] at hf
      generalize fx (fX5_years_L2 D a0 a1) (fun _ _ => none) n = s2 at hf ih2
      unfold fX5_years_L2 at hf
      refine g_iload_n G dX5_years_2 rfl (lv_at hl 2 rfl) ?_
      refine g_iload_n G dX5_years_3 rfl (lv_at hl 1 rfl) ?_
      refine g_icmp_ge (tgt := 19) G dX5_years_4 rfl (fun c1 => ?_) (fun c1 => ?_)
      · have hf := it_pos c1 hf
        refine g_aload_n G dX5_years_19 rfl (lv_at hl 0 rfl) ?_
        exact p_aret X (Or.inl ⟨_, rfl⟩) hM hf dX5_years_20
      · have hf := it_neg c1 hf
        refine g_aload_n G dX5_years_7 rfl (lv_at hl 0 rfl) ?_
        refine g_iconst (v := 0) G dX5_years_8 rfl ?_
        obtain ⟨b1, hf⟩ := ckc_open hf
        obtain ⟨r1, h2, g1, hf⟩ := bnd_open hf
        refine p_callV_r (ci := 5) (As := [.int 0]) (rest := []) X hM hl rfl b1 pcy_X5_passes q1430 q1431 q1432 (kX5_passes g1) rfl (Nat.le_of_ble_eq_true rfl) (Nat.le_of_ble_eq_true rfl) rfl dX5_years_9 (fun H locs hM => ?_)
        refine g_pop G dX5_years_12 rfl ?_
        refine g_iinc (v := x1 + 1) (lv' := [(2, .int (x1 + 1)), (0, .ref a0), (1, .int a1)]) G dX5_years_13 hl (k := 2) rfl rfl (Nat.le_of_ble_eq_true rfl) rfl (fun ls hl => ?_)
        refine g_goto (tgt := 2) G dX5_years_16 rfl ?_
        exact ih2 _ _ _ _ hf hM ls (lv_sub hl [1, 2, 0] rfl)
  exact L2 FU _ _ _ _ hf hM ls (lv_sub hl [1, 2, 0] rfl)
theorem pcy_X0_has_2 : pcY yX0_has_2 cX0_has_2 2 (Option.some Jvm.ClassFile.FieldType.int) 1 := ⟨q1222, q145, ⟨by decide +kernel, by decide +kernel, by decide +kernel⟩, Nat.le_of_ble_eq_true rfl⟩
noncomputable def fX0_has_2 (a0 : Nat) (a1 : Int32) (h : PH) : Option (Int32 × PH) :=
  if a1 = 0 then
    ckc (pCls h a0) 0 <|
    bnd (fX0_facts a0 h) fun r1 h1 =>
    some (r1, h1)
  else
    if a1 = 1 then
      ckc (pCls h a0) 0 <|
      bnd (fX0_people a0 h) fun r2 h2 =>
      some (r2, h2)
    else
      if a1 = 2 then
        vA (pF h a0 0 0) fun p1 =>
        vI (pF h p1 1 1) fun v1 =>
        some (v1, h)
      else
        if a1 = 3 then
          vA (pF h a0 0 0) fun p2 =>
          vI (pF h p2 1 2) fun v2 =>
          some (v2, h)
        else
          if a1 = 4 then
            vA (pF h a0 0 9) fun p3 =>
            vI (pF h p3 5 0) fun v3 =>
            some (v3, h)
          else
            if a1 = 5 then
              vA (pF h a0 0 9) fun p4 =>
              vI (pF h p4 5 1) fun v4 =>
              bnd (fJ16_bitCount v4 h) fun r3 h3 =>
              some (r3, h3)
            else
              if a1 = 6 then
                vA (pF h a0 0 9) fun p5 =>
                vI (pF h p5 5 2) fun v5 =>
                bnd (fJ16_bitCount v5 h) fun r4 h4 =>
                some (r4, h4)
              else
                if a1 = 7 then
                  vA (pF h a0 0 9) fun p6 =>
                  ckc (pCls h p6) 5 <|
                  bnd (fX5_beliefs p6 false h) fun r5 h5 =>
                  some (r5, h5)
                else
                  if a1 = 8 then
                    vA (pF h a0 0 9) fun p7 =>
                    vI (pF h p7 5 3) fun v6 =>
                    some (v6, h)
                  else
                    if a1 = 9 then
                      vI (pF h a0 0 13) fun v7 =>
                      some (v7, h)
                    else
                      if a1 = 10 then
                        vI (pF h a0 0 16) fun v8 =>
                        some (v8, h)
                      else
                        some ((-1), h)
set_option maxHeartbeats 1000000 in
theorem kX0_has_2 {l : Launch} {D : PD} {A : Nat → Prop} {cap : Nat × Nat} {a0 : Nat} {a1 : Int32} {h h' : PH} {r : Int32} (hf : fX0_has_2 a0 a1 h = some (r, h')) : CMet l D A cap yX0_has_2 cX0_has_2 2 (Option.some Jvm.ClassFile.FieldType.int) 4 [.ref a0, .int a1] h h' (some (.int r)) := by
  unfold fX0_has_2 at hf
  refine p_head (own := RX0) (ini := false) (pn_X0 rfl) rfl (fun q => by cases q) (Nat.le_of_ble_eq_true rfl) (fun m Z cx sx H0 ls X hM hl => ?_)
  have G := X.g
  have hl : lv_has ls 2 [(0, .ref a0), (1, .int a1)] := hl
  refine g_iload_n G dX0_has_2_0 rfl (lv_at hl 1 rfl) ?_
  by_cases c1 : a1 = 0
  · have hf := it_pos c1 hf
    refine g_tableIn (off := 59) (tgt := 60) G dX0_has_2_1 (by rw [c1]; decide) (by rw [c1]; decide) (by rw [c1]; rfl) rfl ?_
    refine g_aload_n G dX0_has_2_60 rfl (lv_at hl 0 rfl) ?_
    obtain ⟨b1, hf⟩ := ckc_open hf
    obtain ⟨r1, h1, g1, hf⟩ := bnd_open hf
    refine p_callV_r (ci := 0) (As := []) (rest := []) X hM hl rfl b1 pcy_X0_facts q1223 q1225 qs35 (kX0_facts g1) rfl (Nat.le_of_ble_eq_true rfl) (Nat.le_of_ble_eq_true rfl) rfl dX0_has_2_61 (fun H locs hM => ?_)
    exact p_iret X hM hf dX0_has_2_64
  have hf := it_neg c1 hf
  by_cases c2 : a1 = 1
  · have hf := it_pos c2 hf
    refine g_tableIn (off := 64) (tgt := 65) G dX0_has_2_1 (by rw [c2]; decide) (by rw [c2]; decide) (by rw [c2]; rfl) rfl ?_
    refine g_aload_n G dX0_has_2_65 rfl (lv_at hl 0 rfl) ?_
    obtain ⟨b2, hf⟩ := ckc_open hf
    obtain ⟨r2, h2, g2, hf⟩ := bnd_open hf
    refine p_callV_r (ci := 0) (As := []) (rest := []) X hM hl rfl b2 pcy_X0_people q1227 q1208 qs34 (kX0_people g2) rfl (Nat.le_of_ble_eq_true rfl) (Nat.le_of_ble_eq_true rfl) rfl dX0_has_2_66 (fun H locs hM => ?_)
    exact p_iret X hM hf dX0_has_2_69
  have hf := it_neg c2 hf
  by_cases c3 : a1 = 2
  · have hf := it_pos c3 hf
    refine g_tableIn (off := 69) (tgt := 70) G dX0_has_2_1 (by rw [c3]; decide) (by rw [c3]; decide) (by rw [c3]; rfl) rfl ?_
    refine g_aload_n G dX0_has_2_70 rfl (lv_at hl 0 rfl) ?_
    obtain ⟨p1, g3, hf⟩ := vA_open hf
    refine p_get (k := 0) X hM pc_0 (by decide) q446 rfl g3 dX0_has_2_71 ?_
    obtain ⟨v1, g4, hf⟩ := vI_open hf
    refine p_getN (k := 1) X hM pc_1 (by decide) q231 rfl g4 dX0_has_2_74 ?_
    exact p_iret X hM hf dX0_has_2_77
  have hf := it_neg c3 hf
  by_cases c4 : a1 = 3
  · have hf := it_pos c4 hf
    refine g_tableIn (off := 77) (tgt := 78) G dX0_has_2_1 (by rw [c4]; decide) (by rw [c4]; decide) (by rw [c4]; rfl) rfl ?_
    refine g_aload_n G dX0_has_2_78 rfl (lv_at hl 0 rfl) ?_
    obtain ⟨p2, g5, hf⟩ := vA_open hf
    refine p_get (k := 0) X hM pc_0 (by decide) q446 rfl g5 dX0_has_2_79 ?_
    obtain ⟨v2, g6, hf⟩ := vI_open hf
    refine p_getN (k := 2) X hM pc_1 (by decide) q235 rfl g6 dX0_has_2_82 ?_
    exact p_iret X hM hf dX0_has_2_85
  have hf := it_neg c4 hf
  by_cases c5 : a1 = 4
  · have hf := it_pos c5 hf
    refine g_tableIn (off := 85) (tgt := 86) G dX0_has_2_1 (by rw [c5]; decide) (by rw [c5]; decide) (by rw [c5]; rfl) rfl ?_
    refine g_aload_n G dX0_has_2_86 rfl (lv_at hl 0 rfl) ?_
    obtain ⟨p3, g7, hf⟩ := vA_open hf
    refine p_get (k := 9) X hM pc_0 (by decide) q457 rfl g7 dX0_has_2_87 ?_
    obtain ⟨v3, g8, hf⟩ := vI_open hf
    refine p_getN (k := 0) X hM pc_5 (by decide) q397 rfl g8 dX0_has_2_90 ?_
    exact p_iret X hM hf dX0_has_2_93
  have hf := it_neg c5 hf
  by_cases c6 : a1 = 5
  · have hf := it_pos c6 hf
    refine g_tableIn (off := 93) (tgt := 94) G dX0_has_2_1 (by rw [c6]; decide) (by rw [c6]; decide) (by rw [c6]; rfl) rfl ?_
    refine g_aload_n G dX0_has_2_94 rfl (lv_at hl 0 rfl) ?_
    obtain ⟨p4, g9, hf⟩ := vA_open hf
    refine p_get (k := 9) X hM pc_0 (by decide) q457 rfl g9 dX0_has_2_95 ?_
    obtain ⟨v4, g10, hf⟩ := vI_open hf
    refine p_getN (k := 1) X hM pc_5 (by decide) q399 rfl g10 dX0_has_2_98 ?_
    obtain ⟨r3, h3, g11, hf⟩ := bnd_open hf
    refine p_callS_r (As := [.int v4]) (rest := []) X hM hl pcy_J16_bitCount q1228 q1229 (kJ16_bitCount g11) rfl (Nat.le_of_ble_eq_true rfl) (Nat.le_of_ble_eq_true rfl) rfl dX0_has_2_101 (fun H locs hM => ?_)
    exact p_iret X hM hf dX0_has_2_104
  have hf := it_neg c6 hf
  by_cases c7 : a1 = 6
  · have hf := it_pos c7 hf
    refine g_tableIn (off := 104) (tgt := 105) G dX0_has_2_1 (by rw [c7]; decide) (by rw [c7]; decide) (by rw [c7]; rfl) rfl ?_
    refine g_aload_n G dX0_has_2_105 rfl (lv_at hl 0 rfl) ?_
    obtain ⟨p5, g12, hf⟩ := vA_open hf
    refine p_get (k := 9) X hM pc_0 (by decide) q457 rfl g12 dX0_has_2_106 ?_
    obtain ⟨v5, g13, hf⟩ := vI_open hf
    refine p_getN (k := 2) X hM pc_5 (by decide) q401 rfl g13 dX0_has_2_109 ?_
    obtain ⟨r4, h4, g14, hf⟩ := bnd_open hf
    refine p_callS_r (As := [.int v5]) (rest := []) X hM hl pcy_J16_bitCount q1228 q1229 (kJ16_bitCount g14) rfl (Nat.le_of_ble_eq_true rfl) (Nat.le_of_ble_eq_true rfl) rfl dX0_has_2_112 (fun H locs hM => ?_)
    exact p_iret X hM hf dX0_has_2_115
  have hf := it_neg c7 hf
  by_cases c8 : a1 = 7
  · have hf := it_pos c8 hf
    refine g_tableIn (off := 115) (tgt := 116) G dX0_has_2_1 (by rw [c8]; decide) (by rw [c8]; decide) (by rw [c8]; rfl) rfl ?_
    refine g_aload_n G dX0_has_2_116 rfl (lv_at hl 0 rfl) ?_
    obtain ⟨p6, g15, hf⟩ := vA_open hf
    refine p_get (k := 9) X hM pc_0 (by decide) q457 rfl g15 dX0_has_2_117 ?_
    refine g_iconst (v := 0) G dX0_has_2_120 rfl ?_
    obtain ⟨b3, hf⟩ := ckc_open hf
    obtain ⟨r5, h5, g16, hf⟩ := bnd_open hf
    refine p_callV_r (ci := 5) (As := [.int (bI false)]) (rest := []) X hM hl rfl b3 pcy_X5_beliefs q1234 q1235 q1236 (kX5_beliefs g16) rfl (Nat.le_of_ble_eq_true rfl) (Nat.le_of_ble_eq_true rfl) rfl dX0_has_2_121 (fun H locs hM => ?_)
    exact p_iret X hM hf dX0_has_2_124
  have hf := it_neg c8 hf
  by_cases c9 : a1 = 8
  · have hf := it_pos c9 hf
    refine g_tableIn (off := 124) (tgt := 125) G dX0_has_2_1 (by rw [c9]; decide) (by rw [c9]; decide) (by rw [c9]; rfl) rfl ?_
    refine g_aload_n G dX0_has_2_125 rfl (lv_at hl 0 rfl) ?_
    obtain ⟨p7, g17, hf⟩ := vA_open hf
    refine p_get (k := 9) X hM pc_0 (by decide) q457 rfl g17 dX0_has_2_126 ?_
    obtain ⟨v6, g18, hf⟩ := vI_open hf
    refine p_getN (k := 3) X hM pc_5 (by decide) q403 rfl g18 dX0_has_2_129 ?_
    exact p_iret X hM hf dX0_has_2_132
  have hf := it_neg c9 hf
  by_cases c10 : a1 = 9
  · have hf := it_pos c10 hf
    refine g_tableIn (off := 132) (tgt := 133) G dX0_has_2_1 (by rw [c10]; decide) (by rw [c10]; decide) (by rw [c10]; rfl) rfl ?_
    refine g_aload_n G dX0_has_2_133 rfl (lv_at hl 0 rfl) ?_
    obtain ⟨v7, g19, hf⟩ := vI_open hf
    refine p_get (k := 13) X hM pc_0 (by decide) q461 rfl g19 dX0_has_2_134 ?_
    exact p_iret X hM hf dX0_has_2_137
  have hf := it_neg c10 hf
  by_cases c11 : a1 = 10
  · have hf := it_pos c11 hf
    refine g_tableIn (off := 137) (tgt := 138) G dX0_has_2_1 (by rw [c11]; decide) (by rw [c11]; decide) (by rw [c11]; rfl) rfl ?_
    refine g_aload_n G dX0_has_2_138 rfl (lv_at hl 0 rfl) ?_
    obtain ⟨v8, g20, hf⟩ := vI_open hf
    refine p_get (k := 16) X hM pc_0 (by decide) q464 rfl g20 dX0_has_2_139 ?_
    exact p_iret X hM hf dX0_has_2_142
  have hf := it_neg c11 hf
  refine g_tableOut (tgt := 143) G dX0_has_2_1 (by have ec1 := lv_neT c1 (a := 0) rfl; have ec2 := lv_neT c2 (a := 1) rfl; have ec3 := lv_neT c3 (a := 2) rfl; have ec4 := lv_neT c4 (a := 3) rfl; have ec5 := lv_neT c5 (a := 4) rfl; have ec6 := lv_neT c6 (a := 5) rfl; have ec7 := lv_neT c7 (a := 6) rfl; have ec8 := lv_neT c8 (a := 7) rfl; have ec9 := lv_neT c9 (a := 8) rfl; have ec10 := lv_neT c10 (a := 9) rfl; have ec11 := lv_neT c11 (a := 10) rfl; omega) rfl ?_
  refine g_iconst (v := (-1)) G dX0_has_2_143 rfl ?_
  exact p_iret X hM hf dX0_has_2_144
theorem pcy_X0_standing : pcY yX0_standing cX0_standing 5 (Option.some Jvm.ClassFile.FieldType.int) 2 := ⟨q1280, q145, ⟨by decide +kernel, by decide +kernel, by decide +kernel⟩, Nat.le_of_ble_eq_true rfl⟩
noncomputable def fX0_standing_L5 (a0 : Nat) (a1 : Int32) (a2 : Int32) (s5 : Int32 → Int32 → PH → Option (Int32 × PH)) (x1 : Int32) (x2 : Int32) (h1 : PH) : Option (Int32 × PH) :=
  ckc (pCls h1 a0) 0 <|
  bnd (fX0_people a0 h1) fun r1 h2 =>
  if r1 ≤ x2 then
    some (x1, h2)
  else
    vA (pF h2 a0 0 9) fun p1 =>
    ckc (pCls h2 p1) 5 <|
    bnd (fX5_stands p1 x2 a1 h2) fun r2 h3 =>
    jn (fun (x3 : Bool) (h4 : PH) =>
      s5 (x1 + (bI x3)) (x2 + 1) h4) fun j34 =>
    if r2 = a2 then
      j34 true h3
    else
      j34 false h3
noncomputable def fX0_standing (a0 : Nat) (a1 : Int32) (a2 : Int32) (h : PH) : Option (Int32 × PH) :=
  fx (fX0_standing_L5 a0 a1 a2) (fun _ _ _ => none) FU 0 0 h
set_option maxHeartbeats 1000000 in
theorem kX0_standing {l : Launch} {D : PD} {A : Nat → Prop} {cap : Nat × Nat} {a0 : Nat} {a1 : Int32} {a2 : Int32} {h h' : PH} {r : Int32} (hf : fX0_standing a0 a1 a2 h = some (r, h')) : CMet l D A cap yX0_standing cX0_standing 5 (Option.some Jvm.ClassFile.FieldType.int) 3 [.ref a0, .int a1, .int a2] h h' (some (.int r)) := by
  unfold fX0_standing at hf
  refine p_head (own := RX0) (ini := false) (pn_X0 rfl) rfl (fun q => by cases q) (Nat.le_of_ble_eq_true rfl) (fun m Z cx sx H0 ls X hM hl => ?_)
  have G := X.g
  have hl : lv_has ls 5 [(0, .ref a0), (1, .int a1), (2, .int a2)] := hl
  refine g_iconst (v := 0) G dX0_standing_0 rfl ?_
  refine g_istore_n (i := 3) (lv' := [(3, .int 0), (0, .ref a0), (1, .int a1), (2, .int a2)]) G dX0_standing_1 rfl hl (Nat.le_of_ble_eq_true rfl) rfl (fun ls hl => ?_)
  refine g_iconst (v := 0) G dX0_standing_2 rfl ?_
  refine g_istore (lv' := [(4, .int 0), (3, .int 0), (0, .ref a0), (1, .int a1), (2, .int a2)]) G dX0_standing_3 hl (Nat.le_of_ble_eq_true rfl) rfl (fun ls hl => ?_)
  have L5 : ∀ (n : Nat) (x1 : Int32) (x2 : Int32) (h1 : PH) (H : Heap) (locs : List Loc), fx (fX0_standing_L5 a0 a1 a2) (fun _ _ _ => none) n x1 x2 h1 = some (r, h') → PI D A cap H0 h1 H locs → ∀ ls : Array Slot, lv_has ls 5 [(0, .ref a0), (1, .int a1), (2, .int a2), (3, .int x1), (4, .int x2)] → Z H locs (cx H) (sx H) (F0 m 5 ls []) := by
    intro n
    induction n with
    | zero => intro x1 x2 h1 H locs hf; exact absurd hf (by intro q; cases q)
    | succ n ih5 =>
      intro x1 x2 h1 H locs hf hM ls hl
      rw [fx_s] at hf
      generalize fx (fX0_standing_L5 a0 a1 a2) (fun _ _ _ => none) n = s5 at hf ih5
      unfold fX0_standing_L5 at hf
      refine g_iload G dX0_standing_5 (lv_at hl 4 rfl) ?_
      refine g_aload_n G dX0_standing_7 rfl (lv_at hl 0 rfl) ?_
      obtain ⟨b1, hf⟩ := ckc_open hf
      obtain ⟨r1, h2, g1, hf⟩ := bnd_open hf
      refine p_callV_r (ci := 0) (As := []) (rest := [.int x2]) X hM hl rfl b1 pcy_X0_people q1227 q1208 qs34 (kX0_people g1) rfl (Nat.le_of_ble_eq_true rfl) (Nat.le_of_ble_eq_true rfl) rfl dX0_standing_8 (fun H locs hM => ?_)
      refine g_icmp_ge (tgt := 42) G dX0_standing_11 rfl (fun c1 => ?_) (fun c1 => ?_)
      · have hf := it_pos c1 hf
        refine g_iload_n G dX0_standing_42 rfl (lv_at hl 3 rfl) ?_
        exact p_iret X hM hf dX0_standing_43
      · have hf := it_neg c1 hf
        refine g_iload_n G dX0_standing_14 rfl (lv_at hl 3 rfl) ?_
        refine g_aload_n G dX0_standing_15 rfl (lv_at hl 0 rfl) ?_
        obtain ⟨p1, g2, hf⟩ := vA_open hf
        refine p_get (k := 9) X hM pc_0 (by decide) q457 rfl g2 dX0_standing_16 ?_
        refine g_iload G dX0_standing_19 (lv_at hl 4 rfl) ?_
        refine g_iload_n G dX0_standing_21 rfl (lv_at hl 1 rfl) ?_
        obtain ⟨b2, hf⟩ := ckc_open hf
        obtain ⟨r2, h3, g3, hf⟩ := bnd_open hf
        refine p_callV_r (ci := 5) (As := [.int x2, .int a1]) (rest := [.int x1]) X hM hl rfl b2 pcy_X5_stands q1281 q1282 q1283 (kX5_stands g3) rfl (Nat.le_of_ble_eq_true rfl) (Nat.le_of_ble_eq_true rfl) rfl dX0_standing_22 (fun H locs hM => ?_)
        refine g_iload_n G dX0_standing_25 rfl (lv_at hl 2 rfl) ?_
        obtain ⟨j34, ej34, hf⟩ := jn_open hf
        have J34 : ∀ (x3 : Bool) (h4 : PH) (H : Heap) (locs : List Loc), j34 x3 h4 = some (r, h') → PI D A cap H0 h4 H locs → ∀ ls : Array Slot, lv_has ls 5 [(0, .ref a0), (1, .int a1), (2, .int a2), (4, .int x2)] → Z H locs (cx H) (sx H) (F0 m 34 ls [.int (bI x3), .int x1]) := by
          intro x3 h4 H locs hf hM ls hl
          rw [ej34] at hf
          refine g_iadd G dX0_standing_34 ?_
          refine g_istore_n (i := 3) (lv' := [(3, .int (x1 + (bI x3))), (0, .ref a0), (1, .int a1), (2, .int a2), (4, .int x2)]) G dX0_standing_35 rfl hl (Nat.le_of_ble_eq_true rfl) rfl (fun ls hl => ?_)
          refine g_iinc (v := x2 + 1) (lv' := [(4, .int (x2 + 1)), (3, .int (x1 + (bI x3))), (0, .ref a0), (1, .int a1), (2, .int a2)]) G dX0_standing_36 hl (k := 4) rfl rfl (Nat.le_of_ble_eq_true rfl) rfl (fun ls hl => ?_)
          refine g_goto (tgt := 5) G dX0_standing_39 rfl ?_
          exact ih5 _ _ _ _ _ hf hM ls (lv_sub hl [2, 3, 4, 1, 0] rfl)
        refine g_icmp_ne (tgt := 33) G dX0_standing_26 rfl (fun c2 => ?_) (fun c2 => ?_)
        · have hf := it_neg c2 hf
          refine g_iconst (v := 0) G dX0_standing_33 rfl ?_
          exact J34 _ _ _ _ hf hM ls (lv_sub hl [0, 1, 2, 4] rfl)
        · have hf := it_pos c2 hf
          refine g_iconst (v := 1) G dX0_standing_29 rfl ?_
          refine g_goto (tgt := 34) G dX0_standing_30 rfl ?_
          exact J34 _ _ _ _ hf hM ls (lv_sub hl [0, 1, 2, 4] rfl)
  exact L5 FU _ _ _ _ _ hf hM ls (lv_sub hl [2, 3, 4, 1, 0] rfl)
theorem pcy_X0_fact : pcY yX0_fact cX0_fact 3 (Option.some Jvm.ClassFile.FieldType.int) 2 := ⟨q1268, q145, ⟨by decide +kernel, by decide +kernel, by decide +kernel⟩, Nat.le_of_ble_eq_true rfl⟩
noncomputable def fX0_fact (a0 : Nat) (a1 : Int32) (a2 : Int32) (h : PH) : Option (Int32 × PH) :=
  ckc (pCls h a0) 0 <|
  bnd (fX0_isFact a0 a1 h) fun r1 h1 =>
  if (bI r1) = 0 then
    some ((-1), h1)
  else
    if a2 = 0 then
      ckc (pCls h1 a0) 0 <|
      bnd (fX0_worthOf a0 a1 h1) fun r3 h4 =>
      some (r3, h4)
    else
      jn (fun (h2 : PH) =>
        ckc (pCls h2 a0) 0 <|
        bnd (fX0_standing a0 a1 a2 h2) fun r2 h3 =>
        some (r2, h3)) fun j32 =>
      if a2 = (1 : Int32) then
        j32 h1
      else
        if a2 = (2 : Int32) then
          j32 h1
        else
          some ((-1), h1)
set_option maxHeartbeats 1000000 in
theorem kX0_fact {l : Launch} {D : PD} {A : Nat → Prop} {cap : Nat × Nat} {a0 : Nat} {a1 : Int32} {a2 : Int32} {h h' : PH} {r : Int32} (hf : fX0_fact a0 a1 a2 h = some (r, h')) : CMet l D A cap yX0_fact cX0_fact 3 (Option.some Jvm.ClassFile.FieldType.int) 5 [.ref a0, .int a1, .int a2] h h' (some (.int r)) := by
  unfold fX0_fact at hf
  refine p_head (own := RX0) (ini := false) (pn_X0 rfl) rfl (fun q => by cases q) (Nat.le_of_ble_eq_true rfl) (fun m Z cx sx H0 ls X hM hl => ?_)
  have G := X.g
  have hl : lv_has ls 3 [(0, .ref a0), (1, .int a1), (2, .int a2)] := hl
  refine g_aload_n G dX0_fact_0 rfl (lv_at hl 0 rfl) ?_
  refine g_iload_n G dX0_fact_1 rfl (lv_at hl 1 rfl) ?_
  obtain ⟨b1, hf⟩ := ckc_open hf
  obtain ⟨r1, h1, g1, hf⟩ := bnd_open hf
  refine p_callV_r (ci := 0) (As := [.int a1]) (rest := []) X hM hl rfl b1 pcy_X0_isFact q1269 q1271 qs36 (kX0_isFact g1) rfl (Nat.le_of_ble_eq_true rfl) (Nat.le_of_ble_eq_true rfl) rfl dX0_fact_2 (fun H locs hM => ?_)
  refine g_if_ne (tgt := 10) G dX0_fact_5 rfl (fun c1 => ?_) (fun c1 => ?_)
  · have hf := it_neg c1 hf
    refine g_iload_n G dX0_fact_10 rfl (lv_at hl 2 rfl) ?_
    refine g_if_ne (tgt := 22) G dX0_fact_11 rfl (fun c2 => ?_) (fun c2 => ?_)
    · have hf := it_neg c2 hf
      refine g_iload_n G dX0_fact_22 rfl (lv_at hl 2 rfl) ?_
      refine g_iconst (v := 1) G dX0_fact_23 rfl ?_
      obtain ⟨j32, ej32, hf⟩ := jn_open hf
      have J32 : ∀ (h2 : PH) (H : Heap) (locs : List Loc), j32 h2 = some (r, h') → PI D A cap H0 h2 H locs → ∀ ls : Array Slot, lv_has ls 3 [(0, .ref a0), (1, .int a1), (2, .int a2)] → Z H locs (cx H) (sx H) (F0 m 32 ls []) := by
        intro h2 H locs hf hM ls hl
        rw [ej32] at hf
        refine g_aload_n G dX0_fact_32 rfl (lv_at hl 0 rfl) ?_
        refine g_iload_n G dX0_fact_33 rfl (lv_at hl 1 rfl) ?_
        refine g_iload_n G dX0_fact_34 rfl (lv_at hl 2 rfl) ?_
        obtain ⟨b2, hf⟩ := ckc_open hf
        obtain ⟨r2, h3, g2, hf⟩ := bnd_open hf
        refine p_callV_r (ci := 0) (As := [.int a1, .int a2]) (rest := []) X hM hl rfl b2 pcy_X0_standing q1277 q1279 qs38 (kX0_standing g2) rfl (Nat.le_of_ble_eq_true rfl) (Nat.le_of_ble_eq_true rfl) rfl dX0_fact_35 (fun H locs hM => ?_)
        refine g_goto (tgt := 42) G dX0_fact_38 rfl ?_
        exact p_iret X hM hf dX0_fact_42
      refine g_icmp_eq (tgt := 32) G dX0_fact_24 rfl (fun c3 => ?_) (fun c3 => ?_)
      · have hf := it_pos c3 hf
        exact J32 _ _ _ hf hM ls (lv_sub hl [0, 1, 2] rfl)
      · have hf := it_neg c3 hf
        refine g_iload_n G dX0_fact_27 rfl (lv_at hl 2 rfl) ?_
        refine g_iconst (v := 2) G dX0_fact_28 rfl ?_
        refine g_icmp_ne (tgt := 41) G dX0_fact_29 rfl (fun c4 => ?_) (fun c4 => ?_)
        · have hf := it_neg c4 hf
          refine g_iconst (v := (-1)) G dX0_fact_41 rfl ?_
          exact p_iret X hM hf dX0_fact_42
        · have hf := it_pos c4 hf
          exact J32 _ _ _ hf hM ls (lv_sub hl [0, 1, 2] rfl)
    · have hf := it_pos c2 hf
      refine g_aload_n G dX0_fact_14 rfl (lv_at hl 0 rfl) ?_
      refine g_iload_n G dX0_fact_15 rfl (lv_at hl 1 rfl) ?_
      obtain ⟨b3, hf⟩ := ckc_open hf
      obtain ⟨r3, h4, g3, hf⟩ := bnd_open hf
      refine p_callV_r (ci := 0) (As := [.int a1]) (rest := []) X hM hl rfl b3 pcy_X0_worthOf q1273 q1275 qs37 (kX0_worthOf g3) rfl (Nat.le_of_ble_eq_true rfl) (Nat.le_of_ble_eq_true rfl) rfl dX0_fact_16 (fun H locs hM => ?_)
      refine g_goto (tgt := 42) G dX0_fact_19 rfl ?_
      exact p_iret X hM hf dX0_fact_42
  · have hf := it_pos c1 hf
    refine g_iconst (v := (-1)) G dX0_fact_8 rfl ?_
    exact p_iret X hM hf dX0_fact_9
theorem pcy_X0_person : pcY yX0_person cX0_person 3 (Option.some Jvm.ClassFile.FieldType.int) 2 := ⟨q1289, q145, ⟨by decide +kernel, by decide +kernel, by decide +kernel⟩, Nat.le_of_ble_eq_true rfl⟩
noncomputable def fX0_person (a0 : Nat) (a1 : Int32) (a2 : Int32) (h : PH) : Option (Int32 × PH) :=
  ckc (pCls h a0) 0 <|
  bnd (fX0_isPerson a0 a1 h) fun r1 h1 =>
  if (bI r1) = 0 then
    some ((-1), h1)
  else
    if a2 = 0 then
      ckc (pCls h1 a0) 0 <|
      bnd (fX0_calmOf a0 a1 h1) fun r2 h2 =>
      some (r2, h2)
    else
      if a2 = 1 then
        vA (pF h1 a0 0 9) fun p1 =>
        vA (pF h1 p1 5 4) fun p2 =>
        ob (pLd h1 p2 0 a1) fun v1 =>
        some (v1, h1)
      else
        if a2 = 2 then
          vA (pF h1 a0 0 9) fun p3 =>
          ckc (pCls h1 p3) 5 <|
          bnd (fX5_pupils p3 a1 h1) fun r3 h3 =>
          some (r3, h3)
        else
          if a2 = 3 then
            vA (pF h1 a0 0 9) fun p4 =>
            vA (pF h1 p4 5 5) fun p5 =>
            ob (pLd h1 p5 0 a1) fun v2 =>
            some (v2, h1)
          else
            if a2 = 4 then
              vA (pF h1 a0 0 9) fun p6 =>
              vA (pF h1 p6 5 6) fun p7 =>
              ob (pLd h1 p7 0 a1) fun v3 =>
              some (v3, h1)
            else
              if a2 = 5 then
                vA (pF h1 a0 0 9) fun p8 =>
                vA (pF h1 p8 5 7) fun p9 =>
                ob (pLd h1 p9 0 a1) fun v4 =>
                some (v4, h1)
              else
                if a2 = 6 then
                  vA (pF h1 a0 0 9) fun p10 =>
                  vI (pF h1 p10 5 1) fun v5 =>
                  bnd (fX0_has v5 a1 h1) fun r4 h4 =>
                  if (bI r4) = 0 then
                    some (0, h4)
                  else
                    some (1, h4)
                else
                  if a2 = 7 then
                    vA (pF h1 a0 0 9) fun p11 =>
                    vI (pF h1 p11 5 2) fun v6 =>
                    bnd (fX0_has v6 a1 h1) fun r5 h5 =>
                    if (bI r5) = 0 then
                      some (0, h5)
                    else
                      some (1, h5)
                  else
                    some ((-1), h1)
set_option maxHeartbeats 1000000 in
theorem kX0_person {l : Launch} {D : PD} {A : Nat → Prop} {cap : Nat × Nat} {a0 : Nat} {a1 : Int32} {a2 : Int32} {h h' : PH} {r : Int32} (hf : fX0_person a0 a1 a2 h = some (r, h')) : CMet l D A cap yX0_person cX0_person 3 (Option.some Jvm.ClassFile.FieldType.int) 5 [.ref a0, .int a1, .int a2] h h' (some (.int r)) := by
  unfold fX0_person at hf
  refine p_head (own := RX0) (ini := false) (pn_X0 rfl) rfl (fun q => by cases q) (Nat.le_of_ble_eq_true rfl) (fun m Z cx sx H0 ls X hM hl => ?_)
  have G := X.g
  have hl : lv_has ls 3 [(0, .ref a0), (1, .int a1), (2, .int a2)] := hl
  refine g_aload_n G dX0_person_0 rfl (lv_at hl 0 rfl) ?_
  refine g_iload_n G dX0_person_1 rfl (lv_at hl 1 rfl) ?_
  obtain ⟨b1, hf⟩ := ckc_open hf
  obtain ⟨r1, h1, g1, hf⟩ := bnd_open hf
  refine p_callV_r (ci := 0) (As := [.int a1]) (rest := []) X hM hl rfl b1 pcy_X0_isPerson q1290 q1292 qs39 (kX0_isPerson g1) rfl (Nat.le_of_ble_eq_true rfl) (Nat.le_of_ble_eq_true rfl) rfl dX0_person_2 (fun H locs hM => ?_)
  refine g_if_ne (tgt := 10) G dX0_person_5 rfl (fun c1 => ?_) (fun c1 => ?_)
  · have hf := it_neg c1 hf
    refine g_iload_n G dX0_person_10 rfl (lv_at hl 2 rfl) ?_
    by_cases c2 : a2 = 0
    · have hf := it_pos c2 hf
      refine g_tableIn (off := 45) (tgt := 56) G dX0_person_11 (by rw [c2]; decide) (by rw [c2]; decide) (by rw [c2]; rfl) rfl ?_
      refine g_aload_n G dX0_person_56 rfl (lv_at hl 0 rfl) ?_
      refine g_iload_n G dX0_person_57 rfl (lv_at hl 1 rfl) ?_
      obtain ⟨b2, hf⟩ := ckc_open hf
      obtain ⟨r2, h2, g2, hf⟩ := bnd_open hf
      refine p_callV_r (ci := 0) (As := [.int a1]) (rest := []) X hM hl rfl b2 pcy_X0_calmOf q1294 q1296 qs40 (kX0_calmOf g2) rfl (Nat.le_of_ble_eq_true rfl) (Nat.le_of_ble_eq_true rfl) rfl dX0_person_58 (fun H locs hM => ?_)
      exact p_iret X hM hf dX0_person_61
    have hf := it_neg c2 hf
    by_cases c3 : a2 = 1
    · have hf := it_pos c3 hf
      refine g_tableIn (off := 51) (tgt := 62) G dX0_person_11 (by rw [c3]; decide) (by rw [c3]; decide) (by rw [c3]; rfl) rfl ?_
      refine g_aload_n G dX0_person_62 rfl (lv_at hl 0 rfl) ?_
      obtain ⟨p1, g3, hf⟩ := vA_open hf
      refine p_get (k := 9) X hM pc_0 (by decide) q457 rfl g3 dX0_person_63 ?_
      obtain ⟨p2, g4, hf⟩ := vA_open hf
      refine p_getN (k := 4) X hM pc_5 (by decide) q405 rfl g4 dX0_person_66 ?_
      refine g_iload_n G dX0_person_69 rfl (lv_at hl 1 rfl) ?_
      obtain ⟨v1, g5, hf⟩ := ob_open hf
      refine p_iald X hM g5 dX0_person_70 ?_
      exact p_iret X hM hf dX0_person_71
    have hf := it_neg c3 hf
    by_cases c4 : a2 = 2
    · have hf := it_pos c4 hf
      refine g_tableIn (off := 61) (tgt := 72) G dX0_person_11 (by rw [c4]; decide) (by rw [c4]; decide) (by rw [c4]; rfl) rfl ?_
      refine g_aload_n G dX0_person_72 rfl (lv_at hl 0 rfl) ?_
      obtain ⟨p3, g6, hf⟩ := vA_open hf
      refine p_get (k := 9) X hM pc_0 (by decide) q457 rfl g6 dX0_person_73 ?_
      refine g_iload_n G dX0_person_76 rfl (lv_at hl 1 rfl) ?_
      obtain ⟨b3, hf⟩ := ckc_open hf
      obtain ⟨r3, h3, g7, hf⟩ := bnd_open hf
      refine p_callV_r (ci := 5) (As := [.int a1]) (rest := []) X hM hl rfl b3 pcy_X5_pupils q1298 q1299 q1300 (kX5_pupils g7) rfl (Nat.le_of_ble_eq_true rfl) (Nat.le_of_ble_eq_true rfl) rfl dX0_person_77 (fun H locs hM => ?_)
      exact p_iret X hM hf dX0_person_80
    have hf := it_neg c4 hf
    by_cases c5 : a2 = 3
    · have hf := it_pos c5 hf
      refine g_tableIn (off := 70) (tgt := 81) G dX0_person_11 (by rw [c5]; decide) (by rw [c5]; decide) (by rw [c5]; rfl) rfl ?_
      refine g_aload_n G dX0_person_81 rfl (lv_at hl 0 rfl) ?_
      obtain ⟨p4, g8, hf⟩ := vA_open hf
      refine p_get (k := 9) X hM pc_0 (by decide) q457 rfl g8 dX0_person_82 ?_
      obtain ⟨p5, g9, hf⟩ := vA_open hf
      refine p_getN (k := 5) X hM pc_5 (by decide) q407 rfl g9 dX0_person_85 ?_
      refine g_iload_n G dX0_person_88 rfl (lv_at hl 1 rfl) ?_
      obtain ⟨v2, g10, hf⟩ := ob_open hf
      refine p_iald X hM g10 dX0_person_89 ?_
      exact p_iret X hM hf dX0_person_90
    have hf := it_neg c5 hf
    by_cases c6 : a2 = 4
    · have hf := it_pos c6 hf
      refine g_tableIn (off := 80) (tgt := 91) G dX0_person_11 (by rw [c6]; decide) (by rw [c6]; decide) (by rw [c6]; rfl) rfl ?_
      refine g_aload_n G dX0_person_91 rfl (lv_at hl 0 rfl) ?_
      obtain ⟨p6, g11, hf⟩ := vA_open hf
      refine p_get (k := 9) X hM pc_0 (by decide) q457 rfl g11 dX0_person_92 ?_
      obtain ⟨p7, g12, hf⟩ := vA_open hf
      refine p_getN (k := 6) X hM pc_5 (by decide) q409 rfl g12 dX0_person_95 ?_
      refine g_iload_n G dX0_person_98 rfl (lv_at hl 1 rfl) ?_
      obtain ⟨v3, g13, hf⟩ := ob_open hf
      refine p_iald X hM g13 dX0_person_99 ?_
      exact p_iret X hM hf dX0_person_100
    have hf := it_neg c6 hf
    by_cases c7 : a2 = 5
    · have hf := it_pos c7 hf
      refine g_tableIn (off := 90) (tgt := 101) G dX0_person_11 (by rw [c7]; decide) (by rw [c7]; decide) (by rw [c7]; rfl) rfl ?_
      refine g_aload_n G dX0_person_101 rfl (lv_at hl 0 rfl) ?_
      obtain ⟨p8, g14, hf⟩ := vA_open hf
      refine p_get (k := 9) X hM pc_0 (by decide) q457 rfl g14 dX0_person_102 ?_
      obtain ⟨p9, g15, hf⟩ := vA_open hf
      refine p_getN (k := 7) X hM pc_5 (by decide) q411 rfl g15 dX0_person_105 ?_
      refine g_iload_n G dX0_person_108 rfl (lv_at hl 1 rfl) ?_
      obtain ⟨v4, g16, hf⟩ := ob_open hf
      refine p_iald X hM g16 dX0_person_109 ?_
      exact p_iret X hM hf dX0_person_110
    have hf := it_neg c7 hf
    by_cases c8 : a2 = 6
    · have hf := it_pos c8 hf
      refine g_tableIn (off := 100) (tgt := 111) G dX0_person_11 (by rw [c8]; decide) (by rw [c8]; decide) (by rw [c8]; rfl) rfl ?_
      refine g_aload_n G dX0_person_111 rfl (lv_at hl 0 rfl) ?_
      obtain ⟨p10, g17, hf⟩ := vA_open hf
      refine p_get (k := 9) X hM pc_0 (by decide) q457 rfl g17 dX0_person_112 ?_
      obtain ⟨v5, g18, hf⟩ := vI_open hf
      refine p_getN (k := 1) X hM pc_5 (by decide) q399 rfl g18 dX0_person_115 ?_
      refine g_iload_n G dX0_person_118 rfl (lv_at hl 1 rfl) ?_
      obtain ⟨r4, h4, g19, hf⟩ := bnd_open hf
      refine p_callS_r (As := [.int v5, .int a1]) (rest := []) X hM hl pcy_X0_has q1302 q914 (kX0_has g19) rfl (Nat.le_of_ble_eq_true rfl) (Nat.le_of_ble_eq_true rfl) rfl dX0_person_119 (fun H locs hM => ?_)
      refine g_if_eq (tgt := 129) G dX0_person_122 rfl (fun c9 => ?_) (fun c9 => ?_)
      · have hf := it_pos c9 hf
        refine g_iconst (v := 0) G dX0_person_129 rfl ?_
        exact p_iret X hM hf dX0_person_130
      · have hf := it_neg c9 hf
        refine g_iconst (v := 1) G dX0_person_125 rfl ?_
        refine g_goto (tgt := 130) G dX0_person_126 rfl ?_
        exact p_iret X hM hf dX0_person_130
    have hf := it_neg c8 hf
    by_cases c10 : a2 = 7
    · have hf := it_pos c10 hf
      refine g_tableIn (off := 120) (tgt := 131) G dX0_person_11 (by rw [c10]; decide) (by rw [c10]; decide) (by rw [c10]; rfl) rfl ?_
      refine g_aload_n G dX0_person_131 rfl (lv_at hl 0 rfl) ?_
      obtain ⟨p11, g20, hf⟩ := vA_open hf
      refine p_get (k := 9) X hM pc_0 (by decide) q457 rfl g20 dX0_person_132 ?_
      obtain ⟨v6, g21, hf⟩ := vI_open hf
      refine p_getN (k := 2) X hM pc_5 (by decide) q401 rfl g21 dX0_person_135 ?_
      refine g_iload_n G dX0_person_138 rfl (lv_at hl 1 rfl) ?_
      obtain ⟨r5, h5, g22, hf⟩ := bnd_open hf
      refine p_callS_r (As := [.int v6, .int a1]) (rest := []) X hM hl pcy_X0_has q1302 q914 (kX0_has g22) rfl (Nat.le_of_ble_eq_true rfl) (Nat.le_of_ble_eq_true rfl) rfl dX0_person_139 (fun H locs hM => ?_)
      refine g_if_eq (tgt := 149) G dX0_person_142 rfl (fun c11 => ?_) (fun c11 => ?_)
      · have hf := it_pos c11 hf
        refine g_iconst (v := 0) G dX0_person_149 rfl ?_
        exact p_iret X hM hf dX0_person_150
      · have hf := it_neg c11 hf
        refine g_iconst (v := 1) G dX0_person_145 rfl ?_
        refine g_goto (tgt := 150) G dX0_person_146 rfl ?_
        exact p_iret X hM hf dX0_person_150
    have hf := it_neg c10 hf
    refine g_tableOut (tgt := 151) G dX0_person_11 (by have ec2 := lv_neT c2 (a := 0) rfl; have ec3 := lv_neT c3 (a := 1) rfl; have ec4 := lv_neT c4 (a := 2) rfl; have ec5 := lv_neT c5 (a := 3) rfl; have ec6 := lv_neT c6 (a := 4) rfl; have ec7 := lv_neT c7 (a := 5) rfl; have ec8 := lv_neT c8 (a := 6) rfl; have ec10 := lv_neT c10 (a := 7) rfl; omega) rfl ?_
    refine g_iconst (v := (-1)) G dX0_person_151 rfl ?_
    exact p_iret X hM hf dX0_person_152
  · have hf := it_pos c1 hf
    refine g_iconst (v := (-1)) G dX0_person_8 rfl ?_
    exact p_iret X hM hf dX0_person_9
theorem pcy_X0_marks : pcY yX0_marks cX0_marks 2 (Option.some Jvm.ClassFile.FieldType.long) 1 := ⟨q1306, q145, ⟨by decide +kernel, by decide +kernel, by decide +kernel⟩, Nat.le_of_ble_eq_true rfl⟩
noncomputable def fX0_marks (a0 : Nat) (a1 : Int32) (h : PH) : Option (Int64 × PH) :=
  ckc (pCls h a0) 0 <|
  bnd (fX0_isPerson a0 a1 h) fun r1 h1 =>
  if (bI r1) = 0 then
    some (((-1000000000000000)), h1)
  else
    vA (pF h1 a0 0 9) fun p1 =>
    ckc (pCls h1 p1) 5 <|
    bnd (fX5_marks p1 a1 h1) fun r2 h2 =>
    some ((Int32.toInt64 r2), h2)
set_option maxHeartbeats 1000000 in
theorem kX0_marks {l : Launch} {D : PD} {A : Nat → Prop} {cap : Nat × Nat} {a0 : Nat} {a1 : Int32} {h h' : PH} {r : Int64} (hf : fX0_marks a0 a1 h = some (r, h')) : CMet l D A cap yX0_marks cX0_marks 2 (Option.some Jvm.ClassFile.FieldType.long) 6 [.ref a0, .int a1] h h' (some (.long r)) := by
  unfold fX0_marks at hf
  refine p_head (own := RX0) (ini := false) (pn_X0 rfl) rfl (fun q => by cases q) (Nat.le_of_ble_eq_true rfl) (fun m Z cx sx H0 ls X hM hl => ?_)
  have G := X.g
  have hl : lv_has ls 2 [(0, .ref a0), (1, .int a1)] := hl
  refine g_aload_n G dX0_marks_0 rfl (lv_at hl 0 rfl) ?_
  refine g_iload_n G dX0_marks_1 rfl (lv_at hl 1 rfl) ?_
  obtain ⟨b1, hf⟩ := ckc_open hf
  obtain ⟨r1, h1, g1, hf⟩ := bnd_open hf
  refine p_callV_r (ci := 0) (As := [.int a1]) (rest := []) X hM hl rfl b1 pcy_X0_isPerson q1290 q1292 qs39 (kX0_isPerson g1) rfl (Nat.le_of_ble_eq_true rfl) (Nat.le_of_ble_eq_true rfl) rfl dX0_marks_2 (fun H locs hM => ?_)
  refine g_if_eq (tgt := 20) G dX0_marks_5 rfl (fun c1 => ?_) (fun c1 => ?_)
  · have hf := it_pos c1 hf
    refine g_ldc2 G q1313 dX0_marks_20 ?_
    exact p_lret X hM hf dX0_marks_23
  · have hf := it_neg c1 hf
    refine g_aload_n G dX0_marks_8 rfl (lv_at hl 0 rfl) ?_
    obtain ⟨p1, g2, hf⟩ := vA_open hf
    refine p_get (k := 9) X hM pc_0 (by decide) q457 rfl g2 dX0_marks_9 ?_
    refine g_iload_n G dX0_marks_12 rfl (lv_at hl 1 rfl) ?_
    obtain ⟨b2, hf⟩ := ckc_open hf
    obtain ⟨r2, h2, g3, hf⟩ := bnd_open hf
    refine p_callV_r (ci := 5) (As := [.int a1]) (rest := []) X hM hl rfl b2 pcy_X5_marks q1307 q1308 q1309 (kX5_marks g3) rfl (Nat.le_of_ble_eq_true rfl) (Nat.le_of_ble_eq_true rfl) rfl dX0_marks_13 (fun H locs hM => ?_)
    refine g_i2l (v := Int32.toInt64 r2) G dX0_marks_16 rfl ?_
    refine g_goto (tgt := 23) G dX0_marks_17 rfl ?_
    exact p_lret X hM hf dX0_marks_23
theorem pcy_X0_next : pcY yX0_next cX0_next 2 (Option.some Jvm.ClassFile.FieldType.int) 1 := ⟨q1317, q145, ⟨by decide +kernel, by decide +kernel, by decide +kernel⟩, Nat.le_of_ble_eq_true rfl⟩
noncomputable def fX0_next (D : PD) (a0 : Nat) (a1 : Int32) (h : PH) : Option (Int32 × PH) :=
  ckc (pCls h a0) 0 <|
  bnd (fX0_isPerson a0 a1 h) fun r1 h1 =>
  if (bI r1) = 0 then
    some ((-1), h1)
  else
    vA (pF h1 a0 0 9) fun p1 =>
    ckc (pCls h1 p1) 5 <|
    bnd (fX5_lesson D p1 a1 h1) fun r2 h2 =>
    some (r2, h2)
set_option maxHeartbeats 1000000 in
theorem kX0_next {l : Launch} {D : PD} {A : Nat → Prop} {cap : Nat × Nat} {a0 : Nat} {a1 : Int32} {h h' : PH} {r : Int32} (hf : fX0_next D a0 a1 h = some (r, h')) : CMet l D A cap yX0_next cX0_next 2 (Option.some Jvm.ClassFile.FieldType.int) 97 [.ref a0, .int a1] h h' (some (.int r)) := by
  unfold fX0_next at hf
  refine p_head (own := RX0) (ini := false) (pn_X0 rfl) rfl (fun q => by cases q) (Nat.le_of_ble_eq_true rfl) (fun m Z cx sx H0 ls X hM hl => ?_)
  have G := X.g
  have hl : lv_has ls 2 [(0, .ref a0), (1, .int a1)] := hl
  refine g_aload_n G dX0_next_0 rfl (lv_at hl 0 rfl) ?_
  refine g_iload_n G dX0_next_1 rfl (lv_at hl 1 rfl) ?_
  obtain ⟨b1, hf⟩ := ckc_open hf
  obtain ⟨r1, h1, g1, hf⟩ := bnd_open hf
  refine p_callV_r (ci := 0) (As := [.int a1]) (rest := []) X hM hl rfl b1 pcy_X0_isPerson q1290 q1292 qs39 (kX0_isPerson g1) rfl (Nat.le_of_ble_eq_true rfl) (Nat.le_of_ble_eq_true rfl) rfl dX0_next_2 (fun H locs hM => ?_)
  refine g_if_eq (tgt := 19) G dX0_next_5 rfl (fun c1 => ?_) (fun c1 => ?_)
  · have hf := it_pos c1 hf
    refine g_iconst (v := (-1)) G dX0_next_19 rfl ?_
    exact p_iret X hM hf dX0_next_20
  · have hf := it_neg c1 hf
    refine g_aload_n G dX0_next_8 rfl (lv_at hl 0 rfl) ?_
    obtain ⟨p1, g2, hf⟩ := vA_open hf
    refine p_get (k := 9) X hM pc_0 (by decide) q457 rfl g2 dX0_next_9 ?_
    refine g_iload_n G dX0_next_12 rfl (lv_at hl 1 rfl) ?_
    obtain ⟨b2, hf⟩ := ckc_open hf
    obtain ⟨r2, h2, g3, hf⟩ := bnd_open hf
    refine p_callV_r (ci := 5) (As := [.int a1]) (rest := []) X hM hl rfl b2 pcy_X5_lesson q1318 q1319 q1320 (kX5_lesson g3) rfl (Nat.le_of_ble_eq_true rfl) (Nat.le_of_ble_eq_true rfl) rfl dX0_next_13 (fun H locs hM => ?_)
    refine g_goto (tgt := 20) G dX0_next_16 rfl ?_
    exact p_iret X hM hf dX0_next_20
theorem pcy_X0_kept : pcY yX0_kept cX0_kept 3 (Option.some Jvm.ClassFile.FieldType.int) 2 := ⟨q1413, q145, ⟨by decide +kernel, by decide +kernel, by decide +kernel⟩, Nat.le_of_ble_eq_true rfl⟩
noncomputable def fX0_kept (a0 : Nat) (a1 : Int32) (a2 : Int32) (h : PH) : Option (Int32 × PH) :=
  vA (pF h a0 0 9) fun p1 =>
  vI (pF h p1 5 3) fun v1 =>
  bnd (fX0_is a1 0 (v1 - 1) h) fun r1 h1 =>
  jn (fun (h2 : PH) =>
    some ((-1), h2)) fun j40 =>
  if (bI r1) = 0 then
    j40 h1
  else
    bnd (fX0_is a2 0 2 h1) fun r2 h3 =>
    if (bI r2) = 0 then
      j40 h3
    else
      vA (pF h3 a0 0 9) fun p2 =>
      vA (pF h3 p2 5 8) fun p3 =>
      ob (pLdQ h3 p3 6 a1) fun q1 =>
      qS q1 fun n1 =>
      ob (pLd h3 n1 0 a2) fun v2 =>
      some (v2, h3)
set_option maxHeartbeats 1000000 in
theorem kX0_kept {l : Launch} {D : PD} {A : Nat → Prop} {cap : Nat × Nat} {a0 : Nat} {a1 : Int32} {a2 : Int32} {h h' : PH} {r : Int32} (hf : fX0_kept a0 a1 a2 h = some (r, h')) : CMet l D A cap yX0_kept cX0_kept 3 (Option.some Jvm.ClassFile.FieldType.int) 2 [.ref a0, .int a1, .int a2] h h' (some (.int r)) := by
  unfold fX0_kept at hf
  refine p_head (own := RX0) (ini := false) (pn_X0 rfl) rfl (fun q => by cases q) (Nat.le_of_ble_eq_true rfl) (fun m Z cx sx H0 ls X hM hl => ?_)
  have G := X.g
  have hl : lv_has ls 3 [(0, .ref a0), (1, .int a1), (2, .int a2)] := hl
  refine g_iload_n G dX0_kept_0 rfl (lv_at hl 1 rfl) ?_
  refine g_iconst (v := 0) G dX0_kept_1 rfl ?_
  refine g_aload_n G dX0_kept_2 rfl (lv_at hl 0 rfl) ?_
  obtain ⟨p1, g1, hf⟩ := vA_open hf
  refine p_get (k := 9) X hM pc_0 (by decide) q457 rfl g1 dX0_kept_3 ?_
  obtain ⟨v1, g2, hf⟩ := vI_open hf
  refine p_getN (k := 3) X hM pc_5 (by decide) q403 rfl g2 dX0_kept_6 ?_
  refine g_iconst (v := 1) G dX0_kept_9 rfl ?_
  refine g_isub G dX0_kept_10 ?_
  obtain ⟨r1, h1, g3, hf⟩ := bnd_open hf
  refine p_callS_r (As := [.int a1, .int 0, .int (v1 - 1)]) (rest := []) X hM hl pcy_X0_is q1243 q794 (kX0_is g3) rfl (Nat.le_of_ble_eq_true rfl) (Nat.le_of_ble_eq_true rfl) rfl dX0_kept_11 (fun H locs hM => ?_)
  obtain ⟨j40, ej40, hf⟩ := jn_open hf
  have J40 : ∀ (h2 : PH) (H : Heap) (locs : List Loc), j40 h2 = some (r, h') → PI D A cap H0 h2 H locs → ∀ ls : Array Slot, lv_has ls 3 [] → Z H locs (cx H) (sx H) (F0 m 40 ls []) := by
    intro h2 H locs hf hM ls hl
    rw [ej40] at hf
    refine g_iconst (v := (-1)) G dX0_kept_40 rfl ?_
    exact p_iret X hM hf dX0_kept_41
  refine g_if_eq (tgt := 40) G dX0_kept_14 rfl (fun c1 => ?_) (fun c1 => ?_)
  · have hf := it_pos c1 hf
    exact J40 _ _ _ hf hM ls (lv_sub hl [] rfl)
  · have hf := it_neg c1 hf
    refine g_iload_n G dX0_kept_17 rfl (lv_at hl 2 rfl) ?_
    refine g_iconst (v := 0) G dX0_kept_18 rfl ?_
    refine g_iconst (v := 2) G dX0_kept_19 rfl ?_
    obtain ⟨r2, h3, g4, hf⟩ := bnd_open hf
    refine p_callS_r (As := [.int a2, .int 0, .int 2]) (rest := []) X hM hl pcy_X0_is q1243 q794 (kX0_is g4) rfl (Nat.le_of_ble_eq_true rfl) (Nat.le_of_ble_eq_true rfl) rfl dX0_kept_20 (fun H locs hM => ?_)
    refine g_if_eq (tgt := 40) G dX0_kept_23 rfl (fun c2 => ?_) (fun c2 => ?_)
    · have hf := it_pos c2 hf
      exact J40 _ _ _ hf hM ls (lv_sub hl [] rfl)
    · have hf := it_neg c2 hf
      refine g_aload_n G dX0_kept_26 rfl (lv_at hl 0 rfl) ?_
      obtain ⟨p2, g5, hf⟩ := vA_open hf
      refine p_get (k := 9) X hM pc_0 (by decide) q457 rfl g5 dX0_kept_27 ?_
      obtain ⟨p3, g6, hf⟩ := vA_open hf
      refine p_getN (k := 8) X hM pc_5 (by decide) q413 rfl g6 dX0_kept_30 ?_
      refine g_iload_n G dX0_kept_33 rfl (lv_at hl 1 rfl) ?_
      obtain ⟨q1, g7, hf⟩ := ob_open hf
      refine p_aald X hM (kd := 6) (by decide) rfl g7 dX0_kept_34 ?_
      refine g_iload_n G dX0_kept_35 rfl (lv_at hl 2 rfl) ?_
      obtain ⟨n1, e1, hfq⟩ := qS_open hf
      clear hf; subst e1; have hf := hfq; clear hfq
      obtain ⟨v2, g8, hf⟩ := ob_open hf
      refine p_iald X hM g8 dX0_kept_36 ?_
      refine g_goto (tgt := 41) G dX0_kept_37 rfl ?_
      exact p_iret X hM hf dX0_kept_41
theorem pcy_X0_isAhead : pcY yX0_isAhead cX0_isAhead 4 (Option.some Jvm.ClassFile.FieldType.boolean) 3 := ⟨q1421, q145, ⟨by decide +kernel, by decide +kernel, by decide +kernel⟩, Nat.le_of_ble_eq_true rfl⟩
noncomputable def fX0_isAhead (a0 : Nat) (a1 : Int32) (a2 : Int32) (a3 : Int32) (h : PH) : Option (Bool × PH) :=
  bnd (fX0_is a1 a2 a3 h) fun r1 h1 =>
  jn (fun (h2 : PH) =>
    some (false, h2)) fun j28 =>
  if (bI r1) = 0 then
    j28 h1
  else
    vA (pF h1 a0 0 9) fun p1 =>
    vI (pF h1 p1 5 0) fun v1 =>
    if (999 : Int32) < (v1 + a1) then
      j28 h1
    else
      some (true, h1)
set_option maxHeartbeats 1000000 in
theorem kX0_isAhead {l : Launch} {D : PD} {A : Nat → Prop} {cap : Nat × Nat} {a0 : Nat} {a1 : Int32} {a2 : Int32} {a3 : Int32} {h h' : PH} {r : Bool} (hf : fX0_isAhead a0 a1 a2 a3 h = some (r, h')) : CMet l D A cap yX0_isAhead cX0_isAhead 4 (Option.some Jvm.ClassFile.FieldType.boolean) 2 [.ref a0, .int a1, .int a2, .int a3] h h' (some (.int (bI r))) := by
  unfold fX0_isAhead at hf
  refine p_head (own := RX0) (ini := false) (pn_X0 rfl) rfl (fun q => by cases q) (Nat.le_of_ble_eq_true rfl) (fun m Z cx sx H0 ls X hM hl => ?_)
  have G := X.g
  have hl : lv_has ls 4 [(0, .ref a0), (1, .int a1), (2, .int a2), (3, .int a3)] := hl
  refine g_iload_n G dX0_isAhead_0 rfl (lv_at hl 1 rfl) ?_
  refine g_iload_n G dX0_isAhead_1 rfl (lv_at hl 2 rfl) ?_
  refine g_iload_n G dX0_isAhead_2 rfl (lv_at hl 3 rfl) ?_
  obtain ⟨r1, h1, g1, hf⟩ := bnd_open hf
  refine p_callS_r (As := [.int a1, .int a2, .int a3]) (rest := []) X hM hl pcy_X0_is q1243 q794 (kX0_is g1) rfl (Nat.le_of_ble_eq_true rfl) (Nat.le_of_ble_eq_true rfl) rfl dX0_isAhead_3 (fun H locs hM => ?_)
  obtain ⟨j28, ej28, hf⟩ := jn_open hf
  have J28 : ∀ (h2 : PH) (H : Heap) (locs : List Loc), j28 h2 = some (r, h') → PI D A cap H0 h2 H locs → ∀ ls : Array Slot, lv_has ls 4 [] → Z H locs (cx H) (sx H) (F0 m 28 ls []) := by
    intro h2 H locs hf hM ls hl
    rw [ej28] at hf
    refine g_iconst (v := 0) G dX0_isAhead_28 rfl ?_
    exact p_zret X hM hf dX0_isAhead_29
  refine g_if_eq (tgt := 28) G dX0_isAhead_6 rfl (fun c1 => ?_) (fun c1 => ?_)
  · have hf := it_pos c1 hf
    exact J28 _ _ _ hf hM ls (lv_sub hl [] rfl)
  · have hf := it_neg c1 hf
    refine g_aload_n G dX0_isAhead_9 rfl (lv_at hl 0 rfl) ?_
    obtain ⟨p1, g2, hf⟩ := vA_open hf
    refine p_get (k := 9) X hM pc_0 (by decide) q457 rfl g2 dX0_isAhead_10 ?_
    obtain ⟨v1, g3, hf⟩ := vI_open hf
    refine p_getN (k := 0) X hM pc_5 (by decide) q397 rfl g3 dX0_isAhead_13 ?_
    refine g_iload_n G dX0_isAhead_16 rfl (lv_at hl 1 rfl) ?_
    refine g_iadd G dX0_isAhead_17 ?_
    refine g_sipush (v := 999) G dX0_isAhead_18 rfl ?_
    refine g_icmp_gt (tgt := 28) G dX0_isAhead_21 rfl (fun c2 => ?_) (fun c2 => ?_)
    · have hf := it_pos c2 hf
      exact J28 _ _ _ hf hM ls (lv_sub hl [] rfl)
    · have hf := it_neg c2 hf
      refine g_iconst (v := 1) G dX0_isAhead_24 rfl ?_
      refine g_goto (tgt := 29) G dX0_isAhead_25 rfl ?_
      exact p_zret X hM hf dX0_isAhead_29
theorem pcy_X0_later : pcY yX0_later cX0_later 3 (Option.some Jvm.ClassFile.FieldType.int) 2 := ⟨q1417, q145, ⟨by decide +kernel, by decide +kernel, by decide +kernel⟩, Nat.le_of_ble_eq_true rfl⟩
noncomputable def fX0_later (D : PD) (a0 : Nat) (a1 : Int32) (a2 : Int32) (h : PH) : Option (Int32 × PH) :=
  ckc (pCls h a0) 0 <|
  bnd (fX0_isAhead a0 a1 0 40 h) fun r1 h1 =>
  if (bI r1) = 0 then
    some ((-1), h1)
  else
    bnd (fX0_is a2 0 3 h1) fun r2 h2 =>
    if (bI r2) = 0 then
      some ((-1), h2)
    else
      vA (pF h2 a0 0 10) fun p1 =>
      vA (pF h2 a0 0 9) fun p2 =>
      ckc (pCls h2 p1) 5 <|
      bnd (fX5_copy p1 p2 h2) fun p3 h3 =>
      ckc (pCls h3 p3) 5 <|
      bnd (fX5_years D p3 a1 h3) fun p4 h4 =>
      if a2 = 0 then
        vA (pF h4 a0 0 10) fun p7 =>
        vI (pF h4 p7 5 1) fun v2 =>
        some (v2, h4)
      else
        if a2 = (1 : Int32) then
          vA (pF h4 a0 0 10) fun p6 =>
          vI (pF h4 p6 5 2) fun v1 =>
          some (v1, h4)
        else
          vA (pF h4 a0 0 10) fun p5 =>
          jn (fun (x1 : Bool) (h5 : PH) =>
            ckc (pCls h5 p5) 5 <|
            bnd (fX5_beliefs p5 x1 h5) fun r3 h6 =>
            some (r3, h6)) fun j81 =>
          if a2 = (3 : Int32) then
            j81 true h4
          else
            j81 false h4
set_option maxHeartbeats 1000000 in
theorem kX0_later {l : Launch} {D : PD} {A : Nat → Prop} {cap : Nat × Nat} {a0 : Nat} {a1 : Int32} {a2 : Int32} {h h' : PH} {r : Int32} (hf : fX0_later D a0 a1 a2 h = some (r, h')) : CMet l D A cap yX0_later cX0_later 3 (Option.some Jvm.ClassFile.FieldType.int) 100 [.ref a0, .int a1, .int a2] h h' (some (.int r)) := by
  unfold fX0_later at hf
  refine p_head (own := RX0) (ini := false) (pn_X0 rfl) rfl (fun q => by cases q) (Nat.le_of_ble_eq_true rfl) (fun m Z cx sx H0 ls X hM hl => ?_)
  have G := X.g
  have hl : lv_has ls 3 [(0, .ref a0), (1, .int a1), (2, .int a2)] := hl
  refine g_aload_n G dX0_later_0 rfl (lv_at hl 0 rfl) ?_
  refine g_iload_n G dX0_later_1 rfl (lv_at hl 1 rfl) ?_
  refine g_iconst (v := 0) G dX0_later_2 rfl ?_
  refine g_bipush (v := 40) G dX0_later_3 rfl ?_
  obtain ⟨b1, hf⟩ := ckc_open hf
  obtain ⟨r1, h1, g1, hf⟩ := bnd_open hf
  refine p_callV_r (ci := 0) (As := [.int a1, .int 0, .int 40]) (rest := []) X hM hl rfl b1 pcy_X0_isAhead q1418 q1420 qs43 (kX0_isAhead g1) rfl (Nat.le_of_ble_eq_true rfl) (Nat.le_of_ble_eq_true rfl) rfl dX0_later_5 (fun H locs hM => ?_)
  refine g_if_eq (tgt := 20) G dX0_later_8 rfl (fun c1 => ?_) (fun c1 => ?_)
  · have hf := it_pos c1 hf
    refine g_iconst (v := (-1)) G dX0_later_20 rfl ?_
    exact p_iret X hM hf dX0_later_21
  · have hf := it_neg c1 hf
    refine g_iload_n G dX0_later_11 rfl (lv_at hl 2 rfl) ?_
    refine g_iconst (v := 0) G dX0_later_12 rfl ?_
    refine g_iconst (v := 3) G dX0_later_13 rfl ?_
    obtain ⟨r2, h2, g2, hf⟩ := bnd_open hf
    refine p_callS_r (As := [.int a2, .int 0, .int 3]) (rest := []) X hM hl pcy_X0_is q1243 q794 (kX0_is g2) rfl (Nat.le_of_ble_eq_true rfl) (Nat.le_of_ble_eq_true rfl) rfl dX0_later_14 (fun H locs hM => ?_)
    refine g_if_ne (tgt := 22) G dX0_later_17 rfl (fun c2 => ?_) (fun c2 => ?_)
    · have hf := it_neg c2 hf
      refine g_aload_n G dX0_later_22 rfl (lv_at hl 0 rfl) ?_
      obtain ⟨p1, g3, hf⟩ := vA_open hf
      refine p_get (k := 10) X hM pc_0 (by decide) q458 rfl g3 dX0_later_23 ?_
      refine g_aload_n G dX0_later_26 rfl (lv_at hl 0 rfl) ?_
      obtain ⟨p2, g4, hf⟩ := vA_open hf
      refine p_get (k := 9) X hM pc_0 (by decide) q457 rfl g4 dX0_later_27 ?_
      obtain ⟨b2, hf⟩ := ckc_open hf
      obtain ⟨p3, h3, g5, hf⟩ := bnd_open hf
      refine p_callV_r (ci := 5) (As := [.ref p2]) (rest := []) X hM hl rfl b2 pcy_X5_copy q1422 q1423 q1424 (kX5_copy g5) rfl (Nat.le_of_ble_eq_true rfl) (Nat.le_of_ble_eq_true rfl) rfl dX0_later_30 (fun H locs hM => ?_)
      refine g_iload_n G dX0_later_33 rfl (lv_at hl 1 rfl) ?_
      obtain ⟨b3, hf⟩ := ckc_open hf
      obtain ⟨p4, h4, g6, hf⟩ := bnd_open hf
      refine p_callV_r (ci := 5) (As := [.int a1]) (rest := []) X hM hl rfl b3 pcy_X5_years q1426 q1427 q1428 (kX5_years g6) rfl (Nat.le_of_ble_eq_true rfl) (Nat.le_of_ble_eq_true rfl) rfl dX0_later_34 (fun H locs hM => ?_)
      refine g_pop G dX0_later_37 rfl ?_
      refine g_iload_n G dX0_later_38 rfl (lv_at hl 2 rfl) ?_
      refine g_if_ne (tgt := 52) G dX0_later_39 rfl (fun c3 => ?_) (fun c3 => ?_)
      · have hf := it_neg c3 hf
        refine g_iload_n G dX0_later_52 rfl (lv_at hl 2 rfl) ?_
        refine g_iconst (v := 1) G dX0_later_53 rfl ?_
        refine g_icmp_ne (tgt := 67) G dX0_later_54 rfl (fun c4 => ?_) (fun c4 => ?_)
        · have hf := it_neg c4 hf
          refine g_aload_n G dX0_later_67 rfl (lv_at hl 0 rfl) ?_
          obtain ⟨p5, g7, hf⟩ := vA_open hf
          refine p_get (k := 10) X hM pc_0 (by decide) q458 rfl g7 dX0_later_68 ?_
          refine g_iload_n G dX0_later_71 rfl (lv_at hl 2 rfl) ?_
          refine g_iconst (v := 3) G dX0_later_72 rfl ?_
          obtain ⟨j81, ej81, hf⟩ := jn_open hf
          have J81 : ∀ (x1 : Bool) (h5 : PH) (H : Heap) (locs : List Loc), j81 x1 h5 = some (r, h') → PI D A cap H0 h5 H locs → ∀ ls : Array Slot, lv_has ls 3 [] → Z H locs (cx H) (sx H) (F0 m 81 ls [.int (bI x1), .ref p5]) := by
            intro x1 h5 H locs hf hM ls hl
            rw [ej81] at hf
            obtain ⟨b4, hf⟩ := ckc_open hf
            obtain ⟨r3, h6, g8, hf⟩ := bnd_open hf
            refine p_callV_r (ci := 5) (As := [.int (bI x1)]) (rest := []) X hM hl rfl b4 pcy_X5_beliefs q1234 q1235 q1236 (kX5_beliefs g8) rfl (Nat.le_of_ble_eq_true rfl) (Nat.le_of_ble_eq_true rfl) rfl dX0_later_81 (fun H locs hM => ?_)
            exact p_iret X hM hf dX0_later_84
          refine g_icmp_ne (tgt := 80) G dX0_later_73 rfl (fun c5 => ?_) (fun c5 => ?_)
          · have hf := it_neg c5 hf
            refine g_iconst (v := 0) G dX0_later_80 rfl ?_
            exact J81 _ _ _ _ hf hM ls (lv_sub hl [] rfl)
          · have hf := it_pos c5 hf
            refine g_iconst (v := 1) G dX0_later_76 rfl ?_
            refine g_goto (tgt := 81) G dX0_later_77 rfl ?_
            exact J81 _ _ _ _ hf hM ls (lv_sub hl [] rfl)
        · have hf := it_pos c4 hf
          refine g_aload_n G dX0_later_57 rfl (lv_at hl 0 rfl) ?_
          obtain ⟨p6, g9, hf⟩ := vA_open hf
          refine p_get (k := 10) X hM pc_0 (by decide) q458 rfl g9 dX0_later_58 ?_
          obtain ⟨v1, g10, hf⟩ := vI_open hf
          refine p_getN (k := 2) X hM pc_5 (by decide) q401 rfl g10 dX0_later_61 ?_
          refine g_goto (tgt := 84) G dX0_later_64 rfl ?_
          exact p_iret X hM hf dX0_later_84
      · have hf := it_pos c3 hf
        refine g_aload_n G dX0_later_42 rfl (lv_at hl 0 rfl) ?_
        obtain ⟨p7, g11, hf⟩ := vA_open hf
        refine p_get (k := 10) X hM pc_0 (by decide) q458 rfl g11 dX0_later_43 ?_
        obtain ⟨v2, g12, hf⟩ := vI_open hf
        refine p_getN (k := 1) X hM pc_5 (by decide) q399 rfl g12 dX0_later_46 ?_
        refine g_goto (tgt := 84) G dX0_later_49 rfl ?_
        exact p_iret X hM hf dX0_later_84
    · have hf := it_pos c2 hf
      refine g_iconst (v := (-1)) G dX0_later_20 rfl ?_
      exact p_iret X hM hf dX0_later_21
theorem pcy_X0_doctor : pcY yX0_doctor cX0_doctor 3 (Option.some Jvm.ClassFile.FieldType.int) 1 := ⟨q1450, q145, ⟨by decide +kernel, by decide +kernel, by decide +kernel⟩, Nat.le_of_ble_eq_true rfl⟩
noncomputable def fX0_doctor_L24 (D : PD) (a0 : Nat) (a1 : Int32) (s24 : Int32 → PH → Option (Int32 × PH)) (x1 : Int32) (h3 : PH) : Option (Int32 × PH) :=
  ckc (pCls h3 a0) 0 <|
  bnd (fX0_isAhead a0 x1 0 40 h3) fun r2 h4 =>
  if (bI r2) = 0 then
    some ((-1), h4)
  else
    vA (pF h4 a0 0 10) fun p4 =>
    vI (pF h4 p4 5 2) fun v1 =>
    bnd (fX0_has v1 a1 h4) fun r3 h5 =>
    if (bI r3) = 0 then
      vA (pF h5 a0 0 10) fun p5 =>
      ckc (pCls h5 p5) 5 <|
      bnd (fX5_years D p5 1 h5) fun p6 h6 =>
      s24 (x1 + 1) h6
    else
      some (x1, h5)
noncomputable def fX0_doctor (D : PD) (a0 : Nat) (a1 : Int32) (h : PH) : Option (Int32 × PH) :=
  ckc (pCls h a0) 0 <|
  bnd (fX0_isPerson a0 a1 h) fun r1 h1 =>
  if (bI r1) = 0 then
    some ((-1), h1)
  else
    vA (pF h1 a0 0 10) fun p1 =>
    vA (pF h1 a0 0 9) fun p2 =>
    ckc (pCls h1 p1) 5 <|
    bnd (fX5_copy p1 p2 h1) fun p3 h2 =>
    fx (fX0_doctor_L24 D a0 a1) (fun _ _ => none) FU 0 h2
set_option maxHeartbeats 1000000 in
theorem kX0_doctor {l : Launch} {D : PD} {A : Nat → Prop} {cap : Nat × Nat} {a0 : Nat} {a1 : Int32} {h h' : PH} {r : Int32} (hf : fX0_doctor D a0 a1 h = some (r, h')) : CMet l D A cap yX0_doctor cX0_doctor 3 (Option.some Jvm.ClassFile.FieldType.int) 100 [.ref a0, .int a1] h h' (some (.int r)) := by
  unfold fX0_doctor at hf
  refine p_head (own := RX0) (ini := false) (pn_X0 rfl) rfl (fun q => by cases q) (Nat.le_of_ble_eq_true rfl) (fun m Z cx sx H0 ls X hM hl => ?_)
  have G := X.g
  have hl : lv_has ls 3 [(0, .ref a0), (1, .int a1)] := hl
  refine g_aload_n G dX0_doctor_0 rfl (lv_at hl 0 rfl) ?_
  refine g_iload_n G dX0_doctor_1 rfl (lv_at hl 1 rfl) ?_
  obtain ⟨b1, hf⟩ := ckc_open hf
  obtain ⟨r1, h1, g1, hf⟩ := bnd_open hf
  refine p_callV_r (ci := 0) (As := [.int a1]) (rest := []) X hM hl rfl b1 pcy_X0_isPerson q1290 q1292 qs39 (kX0_isPerson g1) rfl (Nat.le_of_ble_eq_true rfl) (Nat.le_of_ble_eq_true rfl) rfl dX0_doctor_2 (fun H locs hM => ?_)
  refine g_if_ne (tgt := 10) G dX0_doctor_5 rfl (fun c1 => ?_) (fun c1 => ?_)
  · have hf := it_neg c1 hf
    refine g_aload_n G dX0_doctor_10 rfl (lv_at hl 0 rfl) ?_
    obtain ⟨p1, g2, hf⟩ := vA_open hf
    refine p_get (k := 10) X hM pc_0 (by decide) q458 rfl g2 dX0_doctor_11 ?_
    refine g_aload_n G dX0_doctor_14 rfl (lv_at hl 0 rfl) ?_
    obtain ⟨p2, g3, hf⟩ := vA_open hf
    refine p_get (k := 9) X hM pc_0 (by decide) q457 rfl g3 dX0_doctor_15 ?_
    obtain ⟨b2, hf⟩ := ckc_open hf
    obtain ⟨p3, h2, g4, hf⟩ := bnd_open hf
    refine p_callV_r (ci := 5) (As := [.ref p2]) (rest := []) X hM hl rfl b2 pcy_X5_copy q1422 q1423 q1424 (kX5_copy g4) rfl (Nat.le_of_ble_eq_true rfl) (Nat.le_of_ble_eq_true rfl) rfl dX0_doctor_18 (fun H locs hM => ?_)
    refine g_pop G dX0_doctor_21 rfl ?_
    refine g_iconst (v := 0) G dX0_doctor_22 rfl ?_
    refine g_istore_n (i := 2) (lv' := [(2, .int 0), (0, .ref a0), (1, .int a1)]) G dX0_doctor_23 rfl hl (Nat.le_of_ble_eq_true rfl) rfl (fun ls hl => ?_)
    have L24 : ∀ (n : Nat) (x1 : Int32) (h3 : PH) (H : Heap) (locs : List Loc), fx (fX0_doctor_L24 D a0 a1) (fun _ _ => none) n x1 h3 = some (r, h') → PI D A cap H0 h3 H locs → ∀ ls : Array Slot, lv_has ls 3 [(0, .ref a0), (1, .int a1), (2, .int x1)] → Z H locs (cx H) (sx H) (F0 m 24 ls []) := by
      intro n
      induction n with
      | zero => intro x1 h3 H locs hf; exact absurd hf (by intro q; cases q)
      | succ n ih24 =>
        intro x1 h3 H locs hf hM ls hl
        rw [fx_s] at hf
        generalize fx (fX0_doctor_L24 D a0 a1) (fun _ _ => none) n = s24 at hf ih24
        unfold fX0_doctor_L24 at hf
        refine g_aload_n G dX0_doctor_24 rfl (lv_at hl 0 rfl) ?_
        refine g_iload_n G dX0_doctor_25 rfl (lv_at hl 2 rfl) ?_
        refine g_iconst (v := 0) G dX0_doctor_26 rfl ?_
        refine g_bipush (v := 40) G dX0_doctor_27 rfl ?_
        obtain ⟨b3, hf⟩ := ckc_open hf
        obtain ⟨r2, h4, g5, hf⟩ := bnd_open hf
        refine p_callV_r (ci := 0) (As := [.int x1, .int 0, .int 40]) (rest := []) X hM hl rfl b3 pcy_X0_isAhead q1418 q1420 qs43 (kX0_isAhead g5) rfl (Nat.le_of_ble_eq_true rfl) (Nat.le_of_ble_eq_true rfl) rfl dX0_doctor_29 (fun H locs hM => ?_)
        refine g_if_eq (tgt := 66) G dX0_doctor_32 rfl (fun c2 => ?_) (fun c2 => ?_)
        · have hf := it_pos c2 hf
          refine g_iconst (v := (-1)) G dX0_doctor_66 rfl ?_
          exact p_iret X hM hf dX0_doctor_67
        · have hf := it_neg c2 hf
          refine g_aload_n G dX0_doctor_35 rfl (lv_at hl 0 rfl) ?_
          obtain ⟨p4, g6, hf⟩ := vA_open hf
          refine p_get (k := 10) X hM pc_0 (by decide) q458 rfl g6 dX0_doctor_36 ?_
          obtain ⟨v1, g7, hf⟩ := vI_open hf
          refine p_getN (k := 2) X hM pc_5 (by decide) q401 rfl g7 dX0_doctor_39 ?_
          refine g_iload_n G dX0_doctor_42 rfl (lv_at hl 1 rfl) ?_
          obtain ⟨r3, h5, g8, hf⟩ := bnd_open hf
          refine p_callS_r (As := [.int v1, .int a1]) (rest := []) X hM hl pcy_X0_has q1302 q914 (kX0_has g8) rfl (Nat.le_of_ble_eq_true rfl) (Nat.le_of_ble_eq_true rfl) rfl dX0_doctor_43 (fun H locs hM => ?_)
          refine g_if_eq (tgt := 51) G dX0_doctor_46 rfl (fun c3 => ?_) (fun c3 => ?_)
          · have hf := it_pos c3 hf
            refine g_aload_n G dX0_doctor_51 rfl (lv_at hl 0 rfl) ?_
            obtain ⟨p5, g9, hf⟩ := vA_open hf
            refine p_get (k := 10) X hM pc_0 (by decide) q458 rfl g9 dX0_doctor_52 ?_
            refine g_iconst (v := 1) G dX0_doctor_55 rfl ?_
            obtain ⟨b4, hf⟩ := ckc_open hf
            obtain ⟨p6, h6, g10, hf⟩ := bnd_open hf
            refine p_callV_r (ci := 5) (As := [.int 1]) (rest := []) X hM hl rfl b4 pcy_X5_years q1426 q1427 q1428 (kX5_years g10) rfl (Nat.le_of_ble_eq_true rfl) (Nat.le_of_ble_eq_true rfl) rfl dX0_doctor_56 (fun H locs hM => ?_)
            refine g_pop G dX0_doctor_59 rfl ?_
            refine g_iinc (v := x1 + 1) (lv' := [(2, .int (x1 + 1)), (0, .ref a0), (1, .int a1)]) G dX0_doctor_60 hl (k := 2) rfl rfl (Nat.le_of_ble_eq_true rfl) rfl (fun ls hl => ?_)
            refine g_goto (tgt := 24) G dX0_doctor_63 rfl ?_
            exact ih24 _ _ _ _ hf hM ls (lv_sub hl [1, 2, 0] rfl)
          · have hf := it_neg c3 hf
            refine g_iload_n G dX0_doctor_49 rfl (lv_at hl 2 rfl) ?_
            exact p_iret X hM hf dX0_doctor_50
    exact L24 FU _ _ _ _ hf hM ls (lv_sub hl [1, 2, 0] rfl)
  · have hf := it_pos c1 hf
    refine g_iconst (v := (-1)) G dX0_doctor_8 rfl ?_
    exact p_iret X hM hf dX0_doctor_9
theorem pcy_X0_lost : pcY yX0_lost cX0_lost 5 (Option.some Jvm.ClassFile.FieldType.int) 1 := ⟨q1454, q145, ⟨by decide +kernel, by decide +kernel, by decide +kernel⟩, Nat.le_of_ble_eq_true rfl⟩
noncomputable def fX0_lost_L47 (a0 : Nat) (a1 : Int32) (k84 : Int32 → PH → Option (Int32 × PH)) (s47 : Int32 → Int32 → PH → Option (Int32 × PH)) (x3 : Int32) (x4 : Int32) (h9 : PH) : Option (Int32 × PH) :=
  ckc (pCls h9 a0) 0 <|
  bnd (fX0_people a0 h9) fun r5 h10 =>
  if r5 ≤ x4 then
    k84 x3 h10
  else
    vA (pF h10 a0 0 10) fun p6 =>
    ckc (pCls h10 p6) 5 <|
    bnd (fX5_stands p6 x4 a1 h10) fun r6 h11 =>
    jn (fun (x5 : Bool) (h12 : PH) =>
      s47 (x3 + (bI x5)) (x4 + 1) h12) fun j76 =>
    if r6 = (2 : Int32) then
      j76 true h11
    else
      j76 false h11
noncomputable def fX0_lost_L31 (D : PD) (a0 : Nat) (a1 : Int32) (s31 : Int32 → PH → Option (Int32 × PH)) (x1 : Int32) (h4 : PH) : Option (Int32 × PH) :=
  ckc (pCls h4 a0) 0 <|
  bnd (fX0_isAhead a0 x1 0 40 h4) fun r3 h5 =>
  if (bI r3) = 0 then
    some ((-1), h5)
  else
    jn (fun (x2 : Int32) (h6 : PH) =>
      ckc (pCls h6 a0) 0 <|
      bnd (fX0_people a0 h6) fun r4 h7 =>
      if x2 = r4 then
        some (x1, h7)
      else
        vA (pF h7 a0 0 10) fun p4 =>
        ckc (pCls h7 p4) 5 <|
        bnd (fX5_years D p4 1 h7) fun p5 h8 =>
        s31 (x1 + 1) h8) fun k84 =>
    fx (fX0_lost_L47 a0 a1 k84) (fun _ _ _ => none) FU 0 0 h5
noncomputable def fX0_lost (D : PD) (a0 : Nat) (a1 : Int32) (h : PH) : Option (Int32 × PH) :=
  ckc (pCls h a0) 0 <|
  bnd (fX0_isFact a0 a1 h) fun r1 h1 =>
  if (bI r1) = 0 then
    some ((-1), h1)
  else
    ckc (pCls h1 a0) 0 <|
    bnd (fX0_people a0 h1) fun r2 h2 =>
    if r2 = 0 then
      some ((-1), h2)
    else
      vA (pF h2 a0 0 10) fun p1 =>
      vA (pF h2 a0 0 9) fun p2 =>
      ckc (pCls h2 p1) 5 <|
      bnd (fX5_copy p1 p2 h2) fun p3 h3 =>
      fx (fX0_lost_L31 D a0 a1) (fun _ _ => none) FU 0 h3
set_option maxHeartbeats 1000000 in
theorem kX0_lost {l : Launch} {D : PD} {A : Nat → Prop} {cap : Nat × Nat} {a0 : Nat} {a1 : Int32} {h h' : PH} {r : Int32} (hf : fX0_lost D a0 a1 h = some (r, h')) : CMet l D A cap yX0_lost cX0_lost 5 (Option.some Jvm.ClassFile.FieldType.int) 100 [.ref a0, .int a1] h h' (some (.int r)) := by
  unfold fX0_lost at hf
  refine p_head (own := RX0) (ini := false) (pn_X0 rfl) rfl (fun q => by cases q) (Nat.le_of_ble_eq_true rfl) (fun m Z cx sx H0 ls X hM hl => ?_)
  have G := X.g
  have hl : lv_has ls 5 [(0, .ref a0), (1, .int a1)] := hl
  refine g_aload_n G dX0_lost_0 rfl (lv_at hl 0 rfl) ?_
  refine g_iload_n G dX0_lost_1 rfl (lv_at hl 1 rfl) ?_
  obtain ⟨b1, hf⟩ := ckc_open hf
  obtain ⟨r1, h1, g1, hf⟩ := bnd_open hf
  refine p_callV_r (ci := 0) (As := [.int a1]) (rest := []) X hM hl rfl b1 pcy_X0_isFact q1269 q1271 qs36 (kX0_isFact g1) rfl (Nat.le_of_ble_eq_true rfl) (Nat.le_of_ble_eq_true rfl) rfl dX0_lost_2 (fun H locs hM => ?_)
  refine g_if_eq (tgt := 15) G dX0_lost_5 rfl (fun c1 => ?_) (fun c1 => ?_)
  · have hf := it_pos c1 hf
    refine g_iconst (v := (-1)) G dX0_lost_15 rfl ?_
    exact p_iret X hM hf dX0_lost_16
  · have hf := it_neg c1 hf
    refine g_aload_n G dX0_lost_8 rfl (lv_at hl 0 rfl) ?_
    obtain ⟨b2, hf⟩ := ckc_open hf
    obtain ⟨r2, h2, g2, hf⟩ := bnd_open hf
    refine p_callV_r (ci := 0) (As := []) (rest := []) X hM hl rfl b2 pcy_X0_people q1227 q1208 qs34 (kX0_people g2) rfl (Nat.le_of_ble_eq_true rfl) (Nat.le_of_ble_eq_true rfl) rfl dX0_lost_9 (fun H locs hM => ?_)
    refine g_if_ne (tgt := 17) G dX0_lost_12 rfl (fun c2 => ?_) (fun c2 => ?_)
    · have hf := it_neg c2 hf
      refine g_aload_n G dX0_lost_17 rfl (lv_at hl 0 rfl) ?_
      obtain ⟨p1, g3, hf⟩ := vA_open hf
      refine p_get (k := 10) X hM pc_0 (by decide) q458 rfl g3 dX0_lost_18 ?_
      refine g_aload_n G dX0_lost_21 rfl (lv_at hl 0 rfl) ?_
      obtain ⟨p2, g4, hf⟩ := vA_open hf
      refine p_get (k := 9) X hM pc_0 (by decide) q457 rfl g4 dX0_lost_22 ?_
      obtain ⟨b3, hf⟩ := ckc_open hf
      obtain ⟨p3, h3, g5, hf⟩ := bnd_open hf
      refine p_callV_r (ci := 5) (As := [.ref p2]) (rest := []) X hM hl rfl b3 pcy_X5_copy q1422 q1423 q1424 (kX5_copy g5) rfl (Nat.le_of_ble_eq_true rfl) (Nat.le_of_ble_eq_true rfl) rfl dX0_lost_25 (fun H locs hM => ?_)
      refine g_pop G dX0_lost_28 rfl ?_
      refine g_iconst (v := 0) G dX0_lost_29 rfl ?_
      refine g_istore_n (i := 2) (lv' := [(2, .int 0), (0, .ref a0), (1, .int a1)]) G dX0_lost_30 rfl hl (Nat.le_of_ble_eq_true rfl) rfl (fun ls hl => ?_)
      have L31 : ∀ (n : Nat) (x1 : Int32) (h4 : PH) (H : Heap) (locs : List Loc), fx (fX0_lost_L31 D a0 a1) (fun _ _ => none) n x1 h4 = some (r, h') → PI D A cap H0 h4 H locs → ∀ ls : Array Slot, lv_has ls 5 [(0, .ref a0), (1, .int a1), (2, .int x1)] → Z H locs (cx H) (sx H) (F0 m 31 ls []) := by
        intro n
        induction n with
        | zero => intro x1 h4 H locs hf; exact absurd hf (by intro q; cases q)
        | succ n ih31 =>
          intro x1 h4 H locs hf hM ls hl
          rw [fx_s] at hf
          generalize fx (fX0_lost_L31 D a0 a1) (fun _ _ => none) n = s31 at hf ih31
          unfold fX0_lost_L31 at hf
          refine g_aload_n G dX0_lost_31 rfl (lv_at hl 0 rfl) ?_
          refine g_iload_n G dX0_lost_32 rfl (lv_at hl 2 rfl) ?_
          refine g_iconst (v := 0) G dX0_lost_33 rfl ?_
          refine g_bipush (v := 40) G dX0_lost_34 rfl ?_
          obtain ⟨b4, hf⟩ := ckc_open hf
          obtain ⟨r3, h5, g6, hf⟩ := bnd_open hf
          refine p_callV_r (ci := 0) (As := [.int x1, .int 0, .int 40]) (rest := []) X hM hl rfl b4 pcy_X0_isAhead q1418 q1420 qs43 (kX0_isAhead g6) rfl (Nat.le_of_ble_eq_true rfl) (Nat.le_of_ble_eq_true rfl) rfl dX0_lost_36 (fun H locs hM => ?_)
          refine g_if_eq (tgt := 109) G dX0_lost_39 rfl (fun c3 => ?_) (fun c3 => ?_)
          · have hf := it_pos c3 hf
            refine g_iconst (v := (-1)) G dX0_lost_109 rfl ?_
            exact p_iret X hM hf dX0_lost_110
          · have hf := it_neg c3 hf
            refine g_iconst (v := 0) G dX0_lost_42 rfl ?_
            refine g_istore_n (i := 3) (lv' := [(3, .int 0), (0, .ref a0), (1, .int a1), (2, .int x1)]) G dX0_lost_43 rfl hl (Nat.le_of_ble_eq_true rfl) rfl (fun ls hl => ?_)
            refine g_iconst (v := 0) G dX0_lost_44 rfl ?_
            refine g_istore (lv' := [(4, .int 0), (3, .int 0), (0, .ref a0), (1, .int a1), (2, .int x1)]) G dX0_lost_45 hl (Nat.le_of_ble_eq_true rfl) rfl (fun ls hl => ?_)
            obtain ⟨k84, ek84, hf⟩ := jn_open hf
            have K84 : ∀ (x2 : Int32) (h6 : PH) (H : Heap) (locs : List Loc), k84 x2 h6 = some (r, h') → PI D A cap H0 h6 H locs → ∀ ls : Array Slot, lv_has ls 5 [(0, .ref a0), (1, .int a1), (2, .int x1), (3, .int x2)] → Z H locs (cx H) (sx H) (F0 m 84 ls []) := by
              intro x2 h6 H locs hf hM ls hl
              rw [ek84] at hf
              refine g_iload_n G dX0_lost_84 rfl (lv_at hl 3 rfl) ?_
              refine g_aload_n G dX0_lost_85 rfl (lv_at hl 0 rfl) ?_
              obtain ⟨b5, hf⟩ := ckc_open hf
              obtain ⟨r4, h7, g7, hf⟩ := bnd_open hf
              refine p_callV_r (ci := 0) (As := []) (rest := [.int x2]) X hM hl rfl b5 pcy_X0_people q1227 q1208 qs34 (kX0_people g7) rfl (Nat.le_of_ble_eq_true rfl) (Nat.le_of_ble_eq_true rfl) rfl dX0_lost_86 (fun H locs hM => ?_)
              refine g_icmp_ne (tgt := 94) G dX0_lost_89 rfl (fun c4 => ?_) (fun c4 => ?_)
              · have hf := it_neg c4 hf
                refine g_aload_n G dX0_lost_94 rfl (lv_at hl 0 rfl) ?_
                obtain ⟨p4, g8, hf⟩ := vA_open hf
                refine p_get (k := 10) X hM pc_0 (by decide) q458 rfl g8 dX0_lost_95 ?_
                refine g_iconst (v := 1) G dX0_lost_98 rfl ?_
                obtain ⟨b6, hf⟩ := ckc_open hf
                obtain ⟨p5, h8, g9, hf⟩ := bnd_open hf
                refine p_callV_r (ci := 5) (As := [.int 1]) (rest := []) X hM hl rfl b6 pcy_X5_years q1426 q1427 q1428 (kX5_years g9) rfl (Nat.le_of_ble_eq_true rfl) (Nat.le_of_ble_eq_true rfl) rfl dX0_lost_99 (fun H locs hM => ?_)
                refine g_pop G dX0_lost_102 rfl ?_
                refine g_iinc (v := x1 + 1) (lv' := [(2, .int (x1 + 1)), (0, .ref a0), (1, .int a1), (3, .int x2)]) G dX0_lost_103 hl (k := 2) rfl rfl (Nat.le_of_ble_eq_true rfl) rfl (fun ls hl => ?_)
                refine g_goto (tgt := 31) G dX0_lost_106 rfl ?_
                exact ih31 _ _ _ _ hf hM ls (lv_sub hl [1, 2, 0] rfl)
              · have hf := it_pos c4 hf
                refine g_iload_n G dX0_lost_92 rfl (lv_at hl 2 rfl) ?_
                exact p_iret X hM hf dX0_lost_93
            have L47 : ∀ (n : Nat) (x3 : Int32) (x4 : Int32) (h9 : PH) (H : Heap) (locs : List Loc), fx (fX0_lost_L47 a0 a1 k84) (fun _ _ _ => none) n x3 x4 h9 = some (r, h') → PI D A cap H0 h9 H locs → ∀ ls : Array Slot, lv_has ls 5 [(0, .ref a0), (1, .int a1), (2, .int x1), (3, .int x3), (4, .int x4)] → Z H locs (cx H) (sx H) (F0 m 47 ls []) := by
              intro n
              induction n with
              | zero => intro x3 x4 h9 H locs hf; exact absurd hf (by intro q; cases q)
              | succ n ih47 =>
                intro x3 x4 h9 H locs hf hM ls hl
                rw [fx_s] at hf
                generalize fx (fX0_lost_L47 a0 a1 k84) (fun _ _ _ => none) n = s47 at hf ih47
                unfold fX0_lost_L47 at hf
                refine g_iload G dX0_lost_47 (lv_at hl 4 rfl) ?_
                refine g_aload_n G dX0_lost_49 rfl (lv_at hl 0 rfl) ?_
                obtain ⟨b7, hf⟩ := ckc_open hf
                obtain ⟨r5, h10, g10, hf⟩ := bnd_open hf
                refine p_callV_r (ci := 0) (As := []) (rest := [.int x4]) X hM hl rfl b7 pcy_X0_people q1227 q1208 qs34 (kX0_people g10) rfl (Nat.le_of_ble_eq_true rfl) (Nat.le_of_ble_eq_true rfl) rfl dX0_lost_50 (fun H locs hM => ?_)
                refine g_icmp_ge (tgt := 84) G dX0_lost_53 rfl (fun c5 => ?_) (fun c5 => ?_)
                · have hf := it_pos c5 hf
                  exact K84 _ _ _ _ hf hM ls (lv_sub hl [0, 1, 2, 3] rfl)
                · have hf := it_neg c5 hf
                  refine g_iload_n G dX0_lost_56 rfl (lv_at hl 3 rfl) ?_
                  refine g_aload_n G dX0_lost_57 rfl (lv_at hl 0 rfl) ?_
                  obtain ⟨p6, g11, hf⟩ := vA_open hf
                  refine p_get (k := 10) X hM pc_0 (by decide) q458 rfl g11 dX0_lost_58 ?_
                  refine g_iload G dX0_lost_61 (lv_at hl 4 rfl) ?_
                  refine g_iload_n G dX0_lost_63 rfl (lv_at hl 1 rfl) ?_
                  obtain ⟨b8, hf⟩ := ckc_open hf
                  obtain ⟨r6, h11, g12, hf⟩ := bnd_open hf
                  refine p_callV_r (ci := 5) (As := [.int x4, .int a1]) (rest := [.int x3]) X hM hl rfl b8 pcy_X5_stands q1281 q1282 q1283 (kX5_stands g12) rfl (Nat.le_of_ble_eq_true rfl) (Nat.le_of_ble_eq_true rfl) rfl dX0_lost_64 (fun H locs hM => ?_)
                  refine g_iconst (v := 2) G dX0_lost_67 rfl ?_
                  obtain ⟨j76, ej76, hf⟩ := jn_open hf
                  have J76 : ∀ (x5 : Bool) (h12 : PH) (H : Heap) (locs : List Loc), j76 x5 h12 = some (r, h') → PI D A cap H0 h12 H locs → ∀ ls : Array Slot, lv_has ls 5 [(0, .ref a0), (1, .int a1), (2, .int x1), (4, .int x4)] → Z H locs (cx H) (sx H) (F0 m 76 ls [.int (bI x5), .int x3]) := by
                    intro x5 h12 H locs hf hM ls hl
                    rw [ej76] at hf
                    refine g_iadd G dX0_lost_76 ?_
                    refine g_istore_n (i := 3) (lv' := [(3, .int (x3 + (bI x5))), (0, .ref a0), (1, .int a1), (2, .int x1), (4, .int x4)]) G dX0_lost_77 rfl hl (Nat.le_of_ble_eq_true rfl) rfl (fun ls hl => ?_)
                    refine g_iinc (v := x4 + 1) (lv' := [(4, .int (x4 + 1)), (3, .int (x3 + (bI x5))), (0, .ref a0), (1, .int a1), (2, .int x1)]) G dX0_lost_78 hl (k := 4) rfl rfl (Nat.le_of_ble_eq_true rfl) rfl (fun ls hl => ?_)
                    refine g_goto (tgt := 47) G dX0_lost_81 rfl ?_
                    exact ih47 _ _ _ _ _ hf hM ls (lv_sub hl [2, 3, 4, 1, 0] rfl)
                  refine g_icmp_ne (tgt := 75) G dX0_lost_68 rfl (fun c6 => ?_) (fun c6 => ?_)
                  · have hf := it_neg c6 hf
                    refine g_iconst (v := 0) G dX0_lost_75 rfl ?_
                    exact J76 _ _ _ _ hf hM ls (lv_sub hl [0, 1, 2, 4] rfl)
                  · have hf := it_pos c6 hf
                    refine g_iconst (v := 1) G dX0_lost_71 rfl ?_
                    refine g_goto (tgt := 76) G dX0_lost_72 rfl ?_
                    exact J76 _ _ _ _ hf hM ls (lv_sub hl [0, 1, 2, 4] rfl)
            exact L47 FU _ _ _ _ _ hf hM ls (lv_sub hl [2, 3, 4, 1, 0] rfl)
      exact L31 FU _ _ _ _ hf hM ls (lv_sub hl [1, 2, 0] rfl)
    · have hf := it_pos c2 hf
      refine g_iconst (v := (-1)) G dX0_lost_15 rfl ?_
      exact p_iret X hM hf dX0_lost_16
theorem pcy_X0_master : pcY yX0_master cX0_master 7 (Option.some Jvm.ClassFile.FieldType.int) 2 := ⟨q1458, q145, ⟨by decide +kernel, by decide +kernel, by decide +kernel⟩, Nat.le_of_ble_eq_true rfl⟩
noncomputable def fX0_master_L75 (D : PD) (a0 : Nat) (a1 : Int32) (x5 : Int32) (j130 : Int32 → Int32 → PH → Option (Int32 × PH)) (s75 : Int32 → Int32 → Int32 → PH → Option (Int32 × PH)) (x8 : Int32) (x9 : Int32) (x10 : Int32) (h11 : PH) : Option (Int32 × PH) :=
  ckc (pCls h11 a0) 0 <|
  bnd (fX0_isAhead a0 x10 0 40 h11) fun r5 h12 =>
  if (bI r5) = 0 then
    j130 x8 x9 h12
  else
    if x9 ≤ x10 then
      j130 x8 x9 h12
    else
      vA (pF h12 a0 0 10) fun p6 =>
      vI (pF h12 p6 5 1) fun v1 =>
      bnd (fX0_has v1 a1 h12) fun r6 h13 =>
      jn (fun (x11 : Int32) (x12 : Int32) (h14 : PH) =>
        vA (pF h14 a0 0 10) fun p7 =>
        ckc (pCls h14 p7) 5 <|
        bnd (fX5_years D p7 1 h14) fun p8 h15 =>
        s75 x11 x12 (x10 + 1) h15) fun j115 =>
      if (bI r6) = 0 then
        j115 x8 x9 h13
      else
        j115 x5 x10 h13
noncomputable def fX0_master_L29 (D : PD) (a0 : Nat) (a1 : Int32) (k136 : Int32 → Int32 → PH → Option (Int32 × PH)) (s29 : Int32 → Int32 → Int32 → PH → Option (Int32 × PH)) (x3 : Int32) (x4 : Int32) (x5 : Int32) (h5 : PH) : Option (Int32 × PH) :=
  ckc (pCls h5 a0) 0 <|
  bnd (fX0_people a0 h5) fun r3 h6 =>
  if r3 ≤ x5 then
    k136 x3 x4 h6
  else
    vA (pF h6 a0 0 9) fun p1 =>
    ckc (pCls h6 p1) 5 <|
    bnd (fX5_isBy p1 x5 a1 h6) fun r4 h7 =>
    jn (fun (x6 : Int32) (x7 : Int32) (h8 : PH) =>
      s29 x6 x7 (x5 + 1) h8) fun j130 =>
    if (bI r4) = 0 then
      vA (pF h7 a0 0 10) fun p2 =>
      vA (pF h7 a0 0 9) fun p3 =>
      ckc (pCls h7 p2) 5 <|
      bnd (fX5_copy p2 p3 h7) fun p4 h9 =>
      vA (pF h9 p4 5 4) fun p5 =>
      bnv (pSt h9 p5 0 a1 x5) fun h10 =>
      fx (fX0_master_L75 D a0 a1 x5 j130) (fun _ _ _ _ => none) FU x3 x4 0 h10
    else
      j130 x3 x4 h7
noncomputable def fX0_master (D : PD) (a0 : Nat) (a1 : Int32) (a2 : Int32) (h : PH) : Option (Int32 × PH) :=
  ckc (pCls h a0) 0 <|
  bnd (fX0_isPerson a0 a1 h) fun r1 h1 =>
  if (bI r1) = 0 then
    some ((-1), h1)
  else
    bnd (fX0_is a2 0 1 h1) fun r2 h2 =>
    if (bI r2) = 0 then
      some ((-1), h2)
    else
      jn (fun (x1 : Int32) (x2 : Int32) (h3 : PH) =>
        jn (fun (h4 : PH) =>
          some (x1, h4)) fun j145 =>
        if x1 = ((-1) : Int32) then
          j145 h3
        else
          if a2 = 0 then
            j145 h3
          else
            some (x2, h3)) fun k136 =>
      fx (fX0_master_L29 D a0 a1 k136) (fun _ _ _ _ => none) FU (-1) 100000000 0 h2
set_option maxHeartbeats 1000000 in
theorem kX0_master {l : Launch} {D : PD} {A : Nat → Prop} {cap : Nat × Nat} {a0 : Nat} {a1 : Int32} {a2 : Int32} {h h' : PH} {r : Int32} (hf : fX0_master D a0 a1 a2 h = some (r, h')) : CMet l D A cap yX0_master cX0_master 7 (Option.some Jvm.ClassFile.FieldType.int) 100 [.ref a0, .int a1, .int a2] h h' (some (.int r)) := by
  unfold fX0_master at hf
  refine p_head (own := RX0) (ini := false) (pn_X0 rfl) rfl (fun q => by cases q) (Nat.le_of_ble_eq_true rfl) (fun m Z cx sx H0 ls X hM hl => ?_)
  have G := X.g
  have hl : lv_has ls 7 [(0, .ref a0), (1, .int a1), (2, .int a2)] := hl
  refine g_aload_n G dX0_master_0 rfl (lv_at hl 0 rfl) ?_
  refine g_iload_n G dX0_master_1 rfl (lv_at hl 1 rfl) ?_
  obtain ⟨b1, hf⟩ := ckc_open hf
  obtain ⟨r1, h1, g1, hf⟩ := bnd_open hf
  refine p_callV_r (ci := 0) (As := [.int a1]) (rest := []) X hM hl rfl b1 pcy_X0_isPerson q1290 q1292 qs39 (kX0_isPerson g1) rfl (Nat.le_of_ble_eq_true rfl) (Nat.le_of_ble_eq_true rfl) rfl dX0_master_2 (fun H locs hM => ?_)
  refine g_if_eq (tgt := 17) G dX0_master_5 rfl (fun c1 => ?_) (fun c1 => ?_)
  · have hf := it_pos c1 hf
    refine g_iconst (v := (-1)) G dX0_master_17 rfl ?_
    exact p_iret X hM hf dX0_master_18
  · have hf := it_neg c1 hf
    refine g_iload_n G dX0_master_8 rfl (lv_at hl 2 rfl) ?_
    refine g_iconst (v := 0) G dX0_master_9 rfl ?_
    refine g_iconst (v := 1) G dX0_master_10 rfl ?_
    obtain ⟨r2, h2, g2, hf⟩ := bnd_open hf
    refine p_callS_r (As := [.int a2, .int 0, .int 1]) (rest := []) X hM hl pcy_X0_is q1243 q794 (kX0_is g2) rfl (Nat.le_of_ble_eq_true rfl) (Nat.le_of_ble_eq_true rfl) rfl dX0_master_11 (fun H locs hM => ?_)
    refine g_if_ne (tgt := 19) G dX0_master_14 rfl (fun c2 => ?_) (fun c2 => ?_)
    · have hf := it_neg c2 hf
      refine g_iconst (v := (-1)) G dX0_master_19 rfl ?_
      refine g_istore_n (i := 3) (lv' := [(3, .int (-1)), (0, .ref a0), (1, .int a1), (2, .int a2)]) G dX0_master_20 rfl hl (Nat.le_of_ble_eq_true rfl) rfl (fun ls hl => ?_)
      refine g_ldcw G q1459 dX0_master_21 ?_
      refine g_istore (lv' := [(4, .int 100000000), (3, .int (-1)), (0, .ref a0), (1, .int a1), (2, .int a2)]) G dX0_master_24 hl (Nat.le_of_ble_eq_true rfl) rfl (fun ls hl => ?_)
      refine g_iconst (v := 0) G dX0_master_26 rfl ?_
      refine g_istore (lv' := [(5, .int 0), (4, .int 100000000), (3, .int (-1)), (0, .ref a0), (1, .int a1), (2, .int a2)]) G dX0_master_27 hl (Nat.le_of_ble_eq_true rfl) rfl (fun ls hl => ?_)
      obtain ⟨k136, ek136, hf⟩ := jn_open hf
      have K136 : ∀ (x1 : Int32) (x2 : Int32) (h3 : PH) (H : Heap) (locs : List Loc), k136 x1 x2 h3 = some (r, h') → PI D A cap H0 h3 H locs → ∀ ls : Array Slot, lv_has ls 7 [(2, .int a2), (3, .int x1), (4, .int x2)] → Z H locs (cx H) (sx H) (F0 m 136 ls []) := by
        intro x1 x2 h3 H locs hf hM ls hl
        rw [ek136] at hf
        refine g_iload_n G dX0_master_136 rfl (lv_at hl 1 rfl) ?_
        refine g_iconst (v := (-1)) G dX0_master_137 rfl ?_
        obtain ⟨j145, ej145, hf⟩ := jn_open hf
        have J145 : ∀ (h4 : PH) (H : Heap) (locs : List Loc), j145 h4 = some (r, h') → PI D A cap H0 h4 H locs → ∀ ls : Array Slot, lv_has ls 7 [(3, .int x1)] → Z H locs (cx H) (sx H) (F0 m 145 ls []) := by
          intro h4 H locs hf hM ls hl
          rw [ej145] at hf
          refine g_iload_n G dX0_master_145 rfl (lv_at hl 0 rfl) ?_
          refine g_goto (tgt := 151) G dX0_master_146 rfl ?_
          exact p_iret X hM hf dX0_master_151
        refine g_icmp_eq (tgt := 145) G dX0_master_138 rfl (fun c3 => ?_) (fun c3 => ?_)
        · have hf := it_pos c3 hf
          exact J145 _ _ _ hf hM ls (lv_sub hl [1] rfl)
        · have hf := it_neg c3 hf
          refine g_iload_n G dX0_master_141 rfl (lv_at hl 0 rfl) ?_
          refine g_if_ne (tgt := 149) G dX0_master_142 rfl (fun c4 => ?_) (fun c4 => ?_)
          · have hf := it_neg c4 hf
            refine g_iload G dX0_master_149 (lv_at hl 2 rfl) ?_
            exact p_iret X hM hf dX0_master_151
          · have hf := it_pos c4 hf
            exact J145 _ _ _ hf hM ls (lv_sub hl [1] rfl)
      have L29 : ∀ (n : Nat) (x3 : Int32) (x4 : Int32) (x5 : Int32) (h5 : PH) (H : Heap) (locs : List Loc), fx (fX0_master_L29 D a0 a1 k136) (fun _ _ _ _ => none) n x3 x4 x5 h5 = some (r, h') → PI D A cap H0 h5 H locs → ∀ ls : Array Slot, lv_has ls 7 [(0, .ref a0), (1, .int a1), (2, .int a2), (3, .int x3), (4, .int x4), (5, .int x5)] → Z H locs (cx H) (sx H) (F0 m 29 ls []) := by
        intro n
        induction n with
        | zero => intro x3 x4 x5 h5 H locs hf; exact absurd hf (by intro q; cases q)
        | succ n ih29 =>
          intro x3 x4 x5 h5 H locs hf hM ls hl
          rw [fx_s] at hf
          generalize fx (fX0_master_L29 D a0 a1 k136) (fun _ _ _ _ => none) n = s29 at hf ih29
          unfold fX0_master_L29 at hf
          refine g_iload G dX0_master_29 (lv_at hl 5 rfl) ?_
          refine g_aload_n G dX0_master_31 rfl (lv_at hl 0 rfl) ?_
          obtain ⟨b2, hf⟩ := ckc_open hf
          obtain ⟨r3, h6, g3, hf⟩ := bnd_open hf
          refine p_callV_r (ci := 0) (As := []) (rest := [.int x5]) X hM hl rfl b2 pcy_X0_people q1227 q1208 qs34 (kX0_people g3) rfl (Nat.le_of_ble_eq_true rfl) (Nat.le_of_ble_eq_true rfl) rfl dX0_master_32 (fun H locs hM => ?_)
          refine g_icmp_ge (tgt := 136) G dX0_master_35 rfl (fun c5 => ?_) (fun c5 => ?_)
          · have hf := it_pos c5 hf
            exact K136 _ _ _ _ _ hf hM ls (lv_sub hl [2, 3, 4] rfl)
          · have hf := it_neg c5 hf
            refine g_aload_n G dX0_master_38 rfl (lv_at hl 0 rfl) ?_
            obtain ⟨p1, g4, hf⟩ := vA_open hf
            refine p_get (k := 9) X hM pc_0 (by decide) q457 rfl g4 dX0_master_39 ?_
            refine g_iload G dX0_master_42 (lv_at hl 5 rfl) ?_
            refine g_iload_n G dX0_master_44 rfl (lv_at hl 1 rfl) ?_
            obtain ⟨b3, hf⟩ := ckc_open hf
            obtain ⟨r4, h7, g5, hf⟩ := bnd_open hf
            refine p_callV_r (ci := 5) (As := [.int x5, .int a1]) (rest := []) X hM hl rfl b3 pcy_X5_isBy q1460 q1461 q1462 (kX5_isBy g5) rfl (Nat.le_of_ble_eq_true rfl) (Nat.le_of_ble_eq_true rfl) rfl dX0_master_45 (fun H locs hM => ?_)
            obtain ⟨j130, ej130, hf⟩ := jn_open hf
            have J130 : ∀ (x6 : Int32) (x7 : Int32) (h8 : PH) (H : Heap) (locs : List Loc), j130 x6 x7 h8 = some (r, h') → PI D A cap H0 h8 H locs → ∀ ls : Array Slot, lv_has ls 7 [(0, .ref a0), (1, .int a1), (2, .int a2), (3, .int x6), (4, .int x7), (5, .int x5)] → Z H locs (cx H) (sx H) (F0 m 130 ls []) := by
              intro x6 x7 h8 H locs hf hM ls hl
              rw [ej130] at hf
              refine g_iinc (v := x5 + 1) (lv' := [(5, .int (x5 + 1)), (0, .ref a0), (1, .int a1), (2, .int a2), (3, .int x6), (4, .int x7)]) G dX0_master_130 hl (k := 5) rfl rfl (Nat.le_of_ble_eq_true rfl) rfl (fun ls hl => ?_)
              refine g_goto (tgt := 29) G dX0_master_133 rfl ?_
              exact ih29 _ _ _ _ _ _ hf hM ls (lv_sub hl [1, 2, 3, 4, 5, 0] rfl)
            refine g_if_eq (tgt := 54) G dX0_master_48 rfl (fun c6 => ?_) (fun c6 => ?_)
            · have hf := it_pos c6 hf
              refine g_aload_n G dX0_master_54 rfl (lv_at hl 0 rfl) ?_
              obtain ⟨p2, g6, hf⟩ := vA_open hf
              refine p_get (k := 10) X hM pc_0 (by decide) q458 rfl g6 dX0_master_55 ?_
              refine g_aload_n G dX0_master_58 rfl (lv_at hl 0 rfl) ?_
              obtain ⟨p3, g7, hf⟩ := vA_open hf
              refine p_get (k := 9) X hM pc_0 (by decide) q457 rfl g7 dX0_master_59 ?_
              obtain ⟨b4, hf⟩ := ckc_open hf
              obtain ⟨p4, h9, g8, hf⟩ := bnd_open hf
              refine p_callV_r (ci := 5) (As := [.ref p3]) (rest := []) X hM hl rfl b4 pcy_X5_copy q1422 q1423 q1424 (kX5_copy g8) rfl (Nat.le_of_ble_eq_true rfl) (Nat.le_of_ble_eq_true rfl) rfl dX0_master_62 (fun H locs hM => ?_)
              obtain ⟨p5, g9, hf⟩ := vA_open hf
              refine p_getN (k := 4) X hM pc_5 (by decide) q405 rfl g9 dX0_master_65 ?_
              refine g_iload_n G dX0_master_68 rfl (lv_at hl 1 rfl) ?_
              refine g_iload G dX0_master_69 (lv_at hl 5 rfl) ?_
              obtain ⟨h10, g10, hf⟩ := bnv_open hf
              refine p_iast X hM g10 dX0_master_71 (fun H locs hM => ?_)
              refine g_iconst (v := 0) G dX0_master_72 rfl ?_
              refine g_istore (lv' := [(6, .int 0), (0, .ref a0), (1, .int a1), (2, .int a2), (3, .int x3), (4, .int x4), (5, .int x5)]) G dX0_master_73 hl (Nat.le_of_ble_eq_true rfl) rfl (fun ls hl => ?_)
              have L75 : ∀ (n : Nat) (x8 : Int32) (x9 : Int32) (x10 : Int32) (h11 : PH) (H : Heap) (locs : List Loc), fx (fX0_master_L75 D a0 a1 x5 j130) (fun _ _ _ _ => none) n x8 x9 x10 h11 = some (r, h') → PI D A cap H0 h11 H locs → ∀ ls : Array Slot, lv_has ls 7 [(0, .ref a0), (1, .int a1), (2, .int a2), (3, .int x8), (4, .int x9), (5, .int x5), (6, .int x10)] → Z H locs (cx H) (sx H) (F0 m 75 ls []) := by
                intro n
                induction n with
                | zero => intro x8 x9 x10 h11 H locs hf; exact absurd hf (by intro q; cases q)
                | succ n ih75 =>
                  intro x8 x9 x10 h11 H locs hf hM ls hl
                  rw [fx_s] at hf
                  generalize fx (fX0_master_L75 D a0 a1 x5 j130) (fun _ _ _ _ => none) n = s75 at hf ih75
                  unfold fX0_master_L75 at hf
                  refine g_aload_n G dX0_master_75 rfl (lv_at hl 0 rfl) ?_
                  refine g_iload G dX0_master_76 (lv_at hl 6 rfl) ?_
                  refine g_iconst (v := 0) G dX0_master_78 rfl ?_
                  refine g_bipush (v := 40) G dX0_master_79 rfl ?_
                  obtain ⟨b5, hf⟩ := ckc_open hf
                  obtain ⟨r5, h12, g11, hf⟩ := bnd_open hf
                  refine p_callV_r (ci := 0) (As := [.int x10, .int 0, .int 40]) (rest := []) X hM hl rfl b5 pcy_X0_isAhead q1418 q1420 qs43 (kX0_isAhead g11) rfl (Nat.le_of_ble_eq_true rfl) (Nat.le_of_ble_eq_true rfl) rfl dX0_master_81 (fun H locs hM => ?_)
                  refine g_if_eq (tgt := 130) G dX0_master_84 rfl (fun c7 => ?_) (fun c7 => ?_)
                  · have hf := it_pos c7 hf
                    exact J130 _ _ _ _ _ hf hM ls (lv_sub hl [0, 1, 2, 3, 4, 5] rfl)
                  · have hf := it_neg c7 hf
                    refine g_iload G dX0_master_87 (lv_at hl 6 rfl) ?_
                    refine g_iload G dX0_master_89 (lv_at hl 4 rfl) ?_
                    refine g_icmp_ge (tgt := 130) G dX0_master_91 rfl (fun c8 => ?_) (fun c8 => ?_)
                    · have hf := it_pos c8 hf
                      exact J130 _ _ _ _ _ hf hM ls (lv_sub hl [0, 1, 2, 3, 4, 5] rfl)
                    · have hf := it_neg c8 hf
                      refine g_aload_n G dX0_master_94 rfl (lv_at hl 0 rfl) ?_
                      obtain ⟨p6, g12, hf⟩ := vA_open hf
                      refine p_get (k := 10) X hM pc_0 (by decide) q458 rfl g12 dX0_master_95 ?_
                      obtain ⟨v1, g13, hf⟩ := vI_open hf
                      refine p_getN (k := 1) X hM pc_5 (by decide) q399 rfl g13 dX0_master_98 ?_
                      refine g_iload_n G dX0_master_101 rfl (lv_at hl 1 rfl) ?_
                      obtain ⟨r6, h13, g14, hf⟩ := bnd_open hf
                      refine p_callS_r (As := [.int v1, .int a1]) (rest := []) X hM hl pcy_X0_has q1302 q914 (kX0_has g14) rfl (Nat.le_of_ble_eq_true rfl) (Nat.le_of_ble_eq_true rfl) rfl dX0_master_102 (fun H locs hM => ?_)
                      obtain ⟨j115, ej115, hf⟩ := jn_open hf
                      have J115 : ∀ (x11 : Int32) (x12 : Int32) (h14 : PH) (H : Heap) (locs : List Loc), j115 x11 x12 h14 = some (r, h') → PI D A cap H0 h14 H locs → ∀ ls : Array Slot, lv_has ls 7 [(0, .ref a0), (1, .int a1), (2, .int a2), (3, .int x11), (4, .int x12), (5, .int x5), (6, .int x10)] → Z H locs (cx H) (sx H) (F0 m 115 ls []) := by
                        intro x11 x12 h14 H locs hf hM ls hl
                        rw [ej115] at hf
                        refine g_aload_n G dX0_master_115 rfl (lv_at hl 0 rfl) ?_
                        obtain ⟨p7, g15, hf⟩ := vA_open hf
                        refine p_get (k := 10) X hM pc_0 (by decide) q458 rfl g15 dX0_master_116 ?_
                        refine g_iconst (v := 1) G dX0_master_119 rfl ?_
                        obtain ⟨b6, hf⟩ := ckc_open hf
                        obtain ⟨p8, h15, g16, hf⟩ := bnd_open hf
                        refine p_callV_r (ci := 5) (As := [.int 1]) (rest := []) X hM hl rfl b6 pcy_X5_years q1426 q1427 q1428 (kX5_years g16) rfl (Nat.le_of_ble_eq_true rfl) (Nat.le_of_ble_eq_true rfl) rfl dX0_master_120 (fun H locs hM => ?_)
                        refine g_pop G dX0_master_123 rfl ?_
                        refine g_iinc (v := x10 + 1) (lv' := [(6, .int (x10 + 1)), (0, .ref a0), (1, .int a1), (2, .int a2), (3, .int x11), (4, .int x12), (5, .int x5)]) G dX0_master_124 hl (k := 6) rfl rfl (Nat.le_of_ble_eq_true rfl) rfl (fun ls hl => ?_)
                        refine g_goto (tgt := 75) G dX0_master_127 rfl ?_
                        exact ih75 _ _ _ _ _ _ hf hM ls (lv_sub hl [1, 2, 3, 4, 5, 6, 0] rfl)
                      refine g_if_eq (tgt := 115) G dX0_master_105 rfl (fun c9 => ?_) (fun c9 => ?_)
                      · have hf := it_pos c9 hf
                        exact J115 _ _ _ _ _ hf hM ls (lv_sub hl [0, 1, 2, 3, 4, 5, 6] rfl)
                      · have hf := it_neg c9 hf
                        refine g_iload G dX0_master_108 (lv_at hl 6 rfl) ?_
                        refine g_istore (lv' := [(4, .int x10), (0, .ref a0), (1, .int a1), (2, .int a2), (3, .int x8), (5, .int x5), (6, .int x10)]) G dX0_master_110 hl (Nat.le_of_ble_eq_true rfl) rfl (fun ls hl => ?_)
                        refine g_iload G dX0_master_112 (lv_at hl 5 rfl) ?_
                        refine g_istore_n (i := 3) (lv' := [(3, .int x5), (4, .int x10), (0, .ref a0), (1, .int a1), (2, .int a2), (5, .int x5), (6, .int x10)]) G dX0_master_114 rfl hl (Nat.le_of_ble_eq_true rfl) rfl (fun ls hl => ?_)
                        exact J115 _ _ _ _ _ hf hM ls (lv_sub hl [2, 3, 4, 0, 1, 5, 6] rfl)
              exact L75 FU _ _ _ _ _ _ hf hM ls (lv_sub hl [1, 2, 3, 4, 5, 6, 0] rfl)
            · have hf := it_neg c6 hf
              refine g_goto (tgt := 130) G dX0_master_51 rfl ?_
              exact J130 _ _ _ _ _ hf hM ls (lv_sub hl [0, 1, 2, 3, 4, 5] rfl)
      exact L29 FU _ _ _ _ _ _ hf hM ls (lv_sub hl [3, 4, 5, 2, 1, 0] rfl)
    · have hf := it_pos c2 hf
      refine g_iconst (v := (-1)) G dX0_master_17 rfl ?_
      exact p_iret X hM hf dX0_master_18
theorem pcy_X0_gift : pcY yX0_gift cX0_gift 8 (Option.some Jvm.ClassFile.FieldType.int) 3 := ⟨q1467, q145, ⟨by decide +kernel, by decide +kernel, by decide +kernel⟩, Nat.le_of_ble_eq_true rfl⟩
noncomputable def fX0_gift_L76 (D : PD) (a0 : Nat) (a1 : Int32) (a2 : Int32) (x5 : Int32) (k180 : Int32 → Int32 → PH → Option (Int32 × PH)) (s76 : Int32 → Int32 → Int32 → PH → Option (Int32 × PH)) (x8 : Int32) (x9 : Int32) (x10 : Int32) (h11 : PH) : Option (Int32 × PH) :=
  ckc (pCls h11 a0) 0 <|
  bnd (fX0_facts a0 h11) fun r6 h12 =>
  if r6 ≤ x10 then
    k180 x8 x9 h12
  else
    vA (pF h12 a0 0 9) fun p5 =>
    vA (pF h12 p5 5 5) fun p6 =>
    ob (pLd h12 p6 0 x5) fun v2 =>
    bnd (fX0_has v2 x10 h12) fun r7 h13 =>
    jn (fun (x11 : Int32) (x12 : Int32) (h14 : PH) =>
      s76 x11 x12 (x10 + 1) h14) fun j174 =>
    if (bI r7) = 0 then
      jn (fun (h15 : PH) =>
        vA (pF h15 a0 0 10) fun p7 =>
        vA (pF h15 a0 0 9) fun p8 =>
        ckc (pCls h15 p7) 5 <|
        bnd (fX5_copy p7 p8 h15) fun p9 h16 =>
        ckc (pCls h16 p9) 5 <|
        bnv (fX5_hears p9 x5 x10 h16) fun h17 =>
        vA (pF h17 a0 0 10) fun p10 =>
        ckc (pCls h17 p10) 5 <|
        bnd (fX5_years D p10 a2 h17) fun p11 h18 =>
        vI (pF h18 p11 5 2) fun v3 =>
        bnd (fX0_has v3 a1 h18) fun r8 h19 =>
        if (bI r8) = 0 then
          j174 x8 x9 h19
        else
          j174 x5 x10 h19) fun j127 =>
      if x8 = ((-1) : Int32) then
        j127 h13
      else
        ckc (pCls h13 a0) 0 <|
        bnd (fX0_worthOf a0 x10 h13) fun r9 h20 =>
        ckc (pCls h20 a0) 0 <|
        bnd (fX0_worthOf a0 x9 h20) fun r10 h21 =>
        if r9 < r10 then
          j127 h21
        else
          j174 x8 x9 h21
    else
      j174 x8 x9 h13
noncomputable def fX0_gift_L64 (D : PD) (a0 : Nat) (a1 : Int32) (a2 : Int32) (k186 : Int32 → Int32 → PH → Option (Int32 × PH)) (s64 : Int32 → Int32 → Int32 → PH → Option (Int32 × PH)) (x3 : Int32) (x4 : Int32) (x5 : Int32) (h8 : PH) : Option (Int32 × PH) :=
  ckc (pCls h8 a0) 0 <|
  bnd (fX0_people a0 h8) fun r5 h9 =>
  if r5 ≤ x5 then
    k186 x3 x4 h9
  else
    jn (fun (x6 : Int32) (x7 : Int32) (h10 : PH) =>
      s64 x6 x7 (x5 + 1) h10) fun k180 =>
    fx (fX0_gift_L76 D a0 a1 a2 x5 k180) (fun _ _ _ _ => none) FU x3 x4 0 h9
noncomputable def fX0_gift (D : PD) (a0 : Nat) (a1 : Int32) (a2 : Int32) (a3 : Int32) (h : PH) : Option (Int32 × PH) :=
  ckc (pCls h a0) 0 <|
  bnd (fX0_isPerson a0 a1 h) fun r1 h1 =>
  if (bI r1) = 0 then
    some ((-1), h1)
  else
    ckc (pCls h1 a0) 0 <|
    bnd (fX0_isAhead a0 a2 0 20 h1) fun r2 h2 =>
    if (bI r2) = 0 then
      some ((-1), h2)
    else
      bnd (fX0_is a3 0 1 h2) fun r3 h3 =>
      if (bI r3) = 0 then
        some ((-1), h3)
      else
        vA (pF h3 a0 0 10) fun p1 =>
        vA (pF h3 a0 0 9) fun p2 =>
        ckc (pCls h3 p1) 5 <|
        bnd (fX5_copy p1 p2 h3) fun p3 h4 =>
        ckc (pCls h4 p3) 5 <|
        bnd (fX5_years D p3 a2 h4) fun p4 h5 =>
        vI (pF h5 p4 5 2) fun v1 =>
        bnd (fX0_has v1 a1 h5) fun r4 h6 =>
        if (bI r4) = 0 then
          jn (fun (x1 : Int32) (x2 : Int32) (h7 : PH) =>
            if a3 = 0 then
              some (x1, h7)
            else
              some (x2, h7)) fun k186 =>
          fx (fX0_gift_L64 D a0 a1 a2 k186) (fun _ _ _ _ => none) FU (-1) (-1) 0 h6
        else
          some ((-1), h6)
set_option maxHeartbeats 1000000 in
theorem kX0_gift {l : Launch} {D : PD} {A : Nat → Prop} {cap : Nat × Nat} {a0 : Nat} {a1 : Int32} {a2 : Int32} {a3 : Int32} {h h' : PH} {r : Int32} (hf : fX0_gift D a0 a1 a2 a3 h = some (r, h')) : CMet l D A cap yX0_gift cX0_gift 8 (Option.some Jvm.ClassFile.FieldType.int) 100 [.ref a0, .int a1, .int a2, .int a3] h h' (some (.int r)) := by
  unfold fX0_gift at hf
  refine p_head (own := RX0) (ini := false) (pn_X0 rfl) rfl (fun q => by cases q) (Nat.le_of_ble_eq_true rfl) (fun m Z cx sx H0 ls X hM hl => ?_)
  have G := X.g
  have hl : lv_has ls 8 [(0, .ref a0), (1, .int a1), (2, .int a2), (3, .int a3)] := hl
  refine g_aload_n G dX0_gift_0 rfl (lv_at hl 0 rfl) ?_
  refine g_iload_n G dX0_gift_1 rfl (lv_at hl 1 rfl) ?_
  obtain ⟨b1, hf⟩ := ckc_open hf
  obtain ⟨r1, h1, g1, hf⟩ := bnd_open hf
  refine p_callV_r (ci := 0) (As := [.int a1]) (rest := []) X hM hl rfl b1 pcy_X0_isPerson q1290 q1292 qs39 (kX0_isPerson g1) rfl (Nat.le_of_ble_eq_true rfl) (Nat.le_of_ble_eq_true rfl) rfl dX0_gift_2 (fun H locs hM => ?_)
  refine g_if_eq (tgt := 53) G dX0_gift_5 rfl (fun c1 => ?_) (fun c1 => ?_)
  · have hf := it_pos c1 hf
    refine g_iconst (v := (-1)) G dX0_gift_53 rfl ?_
    exact p_iret X hM hf dX0_gift_54
  · have hf := it_neg c1 hf
    refine g_aload_n G dX0_gift_8 rfl (lv_at hl 0 rfl) ?_
    refine g_iload_n G dX0_gift_9 rfl (lv_at hl 2 rfl) ?_
    refine g_iconst (v := 0) G dX0_gift_10 rfl ?_
    refine g_bipush (v := 20) G dX0_gift_11 rfl ?_
    obtain ⟨b2, hf⟩ := ckc_open hf
    obtain ⟨r2, h2, g2, hf⟩ := bnd_open hf
    refine p_callV_r (ci := 0) (As := [.int a2, .int 0, .int 20]) (rest := []) X hM hl rfl b2 pcy_X0_isAhead q1418 q1420 qs43 (kX0_isAhead g2) rfl (Nat.le_of_ble_eq_true rfl) (Nat.le_of_ble_eq_true rfl) rfl dX0_gift_13 (fun H locs hM => ?_)
    refine g_if_eq (tgt := 53) G dX0_gift_16 rfl (fun c2 => ?_) (fun c2 => ?_)
    · have hf := it_pos c2 hf
      refine g_iconst (v := (-1)) G dX0_gift_53 rfl ?_
      exact p_iret X hM hf dX0_gift_54
    · have hf := it_neg c2 hf
      refine g_iload_n G dX0_gift_19 rfl (lv_at hl 3 rfl) ?_
      refine g_iconst (v := 0) G dX0_gift_20 rfl ?_
      refine g_iconst (v := 1) G dX0_gift_21 rfl ?_
      obtain ⟨r3, h3, g3, hf⟩ := bnd_open hf
      refine p_callS_r (As := [.int a3, .int 0, .int 1]) (rest := []) X hM hl pcy_X0_is q1243 q794 (kX0_is g3) rfl (Nat.le_of_ble_eq_true rfl) (Nat.le_of_ble_eq_true rfl) rfl dX0_gift_22 (fun H locs hM => ?_)
      refine g_if_eq (tgt := 53) G dX0_gift_25 rfl (fun c3 => ?_) (fun c3 => ?_)
      · have hf := it_pos c3 hf
        refine g_iconst (v := (-1)) G dX0_gift_53 rfl ?_
        exact p_iret X hM hf dX0_gift_54
      · have hf := it_neg c3 hf
        refine g_aload_n G dX0_gift_28 rfl (lv_at hl 0 rfl) ?_
        obtain ⟨p1, g4, hf⟩ := vA_open hf
        refine p_get (k := 10) X hM pc_0 (by decide) q458 rfl g4 dX0_gift_29 ?_
        refine g_aload_n G dX0_gift_32 rfl (lv_at hl 0 rfl) ?_
        obtain ⟨p2, g5, hf⟩ := vA_open hf
        refine p_get (k := 9) X hM pc_0 (by decide) q457 rfl g5 dX0_gift_33 ?_
        obtain ⟨b3, hf⟩ := ckc_open hf
        obtain ⟨p3, h4, g6, hf⟩ := bnd_open hf
        refine p_callV_r (ci := 5) (As := [.ref p2]) (rest := []) X hM hl rfl b3 pcy_X5_copy q1422 q1423 q1424 (kX5_copy g6) rfl (Nat.le_of_ble_eq_true rfl) (Nat.le_of_ble_eq_true rfl) rfl dX0_gift_36 (fun H locs hM => ?_)
        refine g_iload_n G dX0_gift_39 rfl (lv_at hl 2 rfl) ?_
        obtain ⟨b4, hf⟩ := ckc_open hf
        obtain ⟨p4, h5, g7, hf⟩ := bnd_open hf
        refine p_callV_r (ci := 5) (As := [.int a2]) (rest := []) X hM hl rfl b4 pcy_X5_years q1426 q1427 q1428 (kX5_years g7) rfl (Nat.le_of_ble_eq_true rfl) (Nat.le_of_ble_eq_true rfl) rfl dX0_gift_40 (fun H locs hM => ?_)
        obtain ⟨v1, g8, hf⟩ := vI_open hf
        refine p_getN (k := 2) X hM pc_5 (by decide) q401 rfl g8 dX0_gift_43 ?_
        refine g_iload_n G dX0_gift_46 rfl (lv_at hl 1 rfl) ?_
        obtain ⟨r4, h6, g9, hf⟩ := bnd_open hf
        refine p_callS_r (As := [.int v1, .int a1]) (rest := []) X hM hl pcy_X0_has q1302 q914 (kX0_has g9) rfl (Nat.le_of_ble_eq_true rfl) (Nat.le_of_ble_eq_true rfl) rfl dX0_gift_47 (fun H locs hM => ?_)
        refine g_if_eq (tgt := 55) G dX0_gift_50 rfl (fun c4 => ?_) (fun c4 => ?_)
        · have hf := it_pos c4 hf
          refine g_iconst (v := (-1)) G dX0_gift_55 rfl ?_
          refine g_istore (lv' := [(4, .int (-1)), (0, .ref a0), (1, .int a1), (2, .int a2), (3, .int a3)]) G dX0_gift_56 hl (Nat.le_of_ble_eq_true rfl) rfl (fun ls hl => ?_)
          refine g_iconst (v := (-1)) G dX0_gift_58 rfl ?_
          refine g_istore (lv' := [(5, .int (-1)), (4, .int (-1)), (0, .ref a0), (1, .int a1), (2, .int a2), (3, .int a3)]) G dX0_gift_59 hl (Nat.le_of_ble_eq_true rfl) rfl (fun ls hl => ?_)
          refine g_iconst (v := 0) G dX0_gift_61 rfl ?_
          refine g_istore (lv' := [(6, .int 0), (5, .int (-1)), (4, .int (-1)), (0, .ref a0), (1, .int a1), (2, .int a2), (3, .int a3)]) G dX0_gift_62 hl (Nat.le_of_ble_eq_true rfl) rfl (fun ls hl => ?_)
          obtain ⟨k186, ek186, hf⟩ := jn_open hf
          have K186 : ∀ (x1 : Int32) (x2 : Int32) (h7 : PH) (H : Heap) (locs : List Loc), k186 x1 x2 h7 = some (r, h') → PI D A cap H0 h7 H locs → ∀ ls : Array Slot, lv_has ls 8 [(3, .int a3), (4, .int x1), (5, .int x2)] → Z H locs (cx H) (sx H) (F0 m 186 ls []) := by
            intro x1 x2 h7 H locs hf hM ls hl
            rw [ek186] at hf
            refine g_iload_n G dX0_gift_186 rfl (lv_at hl 0 rfl) ?_
            refine g_if_ne (tgt := 195) G dX0_gift_187 rfl (fun c5 => ?_) (fun c5 => ?_)
            · have hf := it_neg c5 hf
              refine g_iload G dX0_gift_195 (lv_at hl 2 rfl) ?_
              exact p_iret X hM hf dX0_gift_197
            · have hf := it_pos c5 hf
              refine g_iload G dX0_gift_190 (lv_at hl 1 rfl) ?_
              refine g_goto (tgt := 197) G dX0_gift_192 rfl ?_
              exact p_iret X hM hf dX0_gift_197
          have L64 : ∀ (n : Nat) (x3 : Int32) (x4 : Int32) (x5 : Int32) (h8 : PH) (H : Heap) (locs : List Loc), fx (fX0_gift_L64 D a0 a1 a2 k186) (fun _ _ _ _ => none) n x3 x4 x5 h8 = some (r, h') → PI D A cap H0 h8 H locs → ∀ ls : Array Slot, lv_has ls 8 [(0, .ref a0), (1, .int a1), (2, .int a2), (3, .int a3), (4, .int x3), (5, .int x4), (6, .int x5)] → Z H locs (cx H) (sx H) (F0 m 64 ls []) := by
            intro n
            induction n with
            | zero => intro x3 x4 x5 h8 H locs hf; exact absurd hf (by intro q; cases q)
            | succ n ih64 =>
              intro x3 x4 x5 h8 H locs hf hM ls hl
              rw [fx_s] at hf
              generalize fx (fX0_gift_L64 D a0 a1 a2 k186) (fun _ _ _ _ => none) n = s64 at hf ih64
              unfold fX0_gift_L64 at hf
              refine g_iload G dX0_gift_64 (lv_at hl 6 rfl) ?_
              refine g_aload_n G dX0_gift_66 rfl (lv_at hl 0 rfl) ?_
              obtain ⟨b5, hf⟩ := ckc_open hf
              obtain ⟨r5, h9, g10, hf⟩ := bnd_open hf
              refine p_callV_r (ci := 0) (As := []) (rest := [.int x5]) X hM hl rfl b5 pcy_X0_people q1227 q1208 qs34 (kX0_people g10) rfl (Nat.le_of_ble_eq_true rfl) (Nat.le_of_ble_eq_true rfl) rfl dX0_gift_67 (fun H locs hM => ?_)
              refine g_icmp_ge (tgt := 186) G dX0_gift_70 rfl (fun c6 => ?_) (fun c6 => ?_)
              · have hf := it_pos c6 hf
                exact K186 _ _ _ _ _ hf hM ls (lv_sub hl [3, 4, 5] rfl)
              · have hf := it_neg c6 hf
                refine g_iconst (v := 0) G dX0_gift_73 rfl ?_
                refine g_istore (lv' := [(7, .int 0), (0, .ref a0), (1, .int a1), (2, .int a2), (3, .int a3), (4, .int x3), (5, .int x4), (6, .int x5)]) G dX0_gift_74 hl (Nat.le_of_ble_eq_true rfl) rfl (fun ls hl => ?_)
                obtain ⟨k180, ek180, hf⟩ := jn_open hf
                have K180 : ∀ (x6 : Int32) (x7 : Int32) (h10 : PH) (H : Heap) (locs : List Loc), k180 x6 x7 h10 = some (r, h') → PI D A cap H0 h10 H locs → ∀ ls : Array Slot, lv_has ls 8 [(0, .ref a0), (1, .int a1), (2, .int a2), (3, .int a3), (4, .int x6), (5, .int x7), (6, .int x5)] → Z H locs (cx H) (sx H) (F0 m 180 ls []) := by
                  intro x6 x7 h10 H locs hf hM ls hl
                  rw [ek180] at hf
                  refine g_iinc (v := x5 + 1) (lv' := [(6, .int (x5 + 1)), (0, .ref a0), (1, .int a1), (2, .int a2), (3, .int a3), (4, .int x6), (5, .int x7)]) G dX0_gift_180 hl (k := 6) rfl rfl (Nat.le_of_ble_eq_true rfl) rfl (fun ls hl => ?_)
                  refine g_goto (tgt := 64) G dX0_gift_183 rfl ?_
                  exact ih64 _ _ _ _ _ _ hf hM ls (lv_sub hl [1, 2, 3, 4, 5, 6, 0] rfl)
                have L76 : ∀ (n : Nat) (x8 : Int32) (x9 : Int32) (x10 : Int32) (h11 : PH) (H : Heap) (locs : List Loc), fx (fX0_gift_L76 D a0 a1 a2 x5 k180) (fun _ _ _ _ => none) n x8 x9 x10 h11 = some (r, h') → PI D A cap H0 h11 H locs → ∀ ls : Array Slot, lv_has ls 8 [(0, .ref a0), (1, .int a1), (2, .int a2), (3, .int a3), (4, .int x8), (5, .int x9), (6, .int x5), (7, .int x10)] → Z H locs (cx H) (sx H) (F0 m 76 ls []) := by
                  intro n
                  induction n with
                  | zero => intro x8 x9 x10 h11 H locs hf; exact absurd hf (by intro q; cases q)
                  | succ n ih76 =>
                    intro x8 x9 x10 h11 H locs hf hM ls hl
                    rw [fx_s] at hf
                    generalize fx (fX0_gift_L76 D a0 a1 a2 x5 k180) (fun _ _ _ _ => none) n = s76 at hf ih76
                    unfold fX0_gift_L76 at hf
                    refine g_iload G dX0_gift_76 (lv_at hl 7 rfl) ?_
                    refine g_aload_n G dX0_gift_78 rfl (lv_at hl 0 rfl) ?_
                    obtain ⟨b6, hf⟩ := ckc_open hf
                    obtain ⟨r6, h12, g11, hf⟩ := bnd_open hf
                    refine p_callV_r (ci := 0) (As := []) (rest := [.int x10]) X hM hl rfl b6 pcy_X0_facts q1223 q1225 qs35 (kX0_facts g11) rfl (Nat.le_of_ble_eq_true rfl) (Nat.le_of_ble_eq_true rfl) rfl dX0_gift_79 (fun H locs hM => ?_)
                    refine g_icmp_ge (tgt := 180) G dX0_gift_82 rfl (fun c7 => ?_) (fun c7 => ?_)
                    · have hf := it_pos c7 hf
                      exact K180 _ _ _ _ _ hf hM ls (lv_sub hl [0, 1, 2, 3, 4, 5, 6] rfl)
                    · have hf := it_neg c7 hf
                      refine g_aload_n G dX0_gift_85 rfl (lv_at hl 0 rfl) ?_
                      obtain ⟨p5, g12, hf⟩ := vA_open hf
                      refine p_get (k := 9) X hM pc_0 (by decide) q457 rfl g12 dX0_gift_86 ?_
                      obtain ⟨p6, g13, hf⟩ := vA_open hf
                      refine p_getN (k := 5) X hM pc_5 (by decide) q407 rfl g13 dX0_gift_89 ?_
                      refine g_iload G dX0_gift_92 (lv_at hl 6 rfl) ?_
                      obtain ⟨v2, g14, hf⟩ := ob_open hf
                      refine p_iald X hM g14 dX0_gift_94 ?_
                      refine g_iload G dX0_gift_95 (lv_at hl 7 rfl) ?_
                      obtain ⟨r7, h13, g15, hf⟩ := bnd_open hf
                      refine p_callS_r (As := [.int v2, .int x10]) (rest := []) X hM hl pcy_X0_has q1302 q914 (kX0_has g15) rfl (Nat.le_of_ble_eq_true rfl) (Nat.le_of_ble_eq_true rfl) rfl dX0_gift_97 (fun H locs hM => ?_)
                      obtain ⟨j174, ej174, hf⟩ := jn_open hf
                      have J174 : ∀ (x11 : Int32) (x12 : Int32) (h14 : PH) (H : Heap) (locs : List Loc), j174 x11 x12 h14 = some (r, h') → PI D A cap H0 h14 H locs → ∀ ls : Array Slot, lv_has ls 8 [(0, .ref a0), (1, .int a1), (2, .int a2), (3, .int a3), (4, .int x11), (5, .int x12), (6, .int x5), (7, .int x10)] → Z H locs (cx H) (sx H) (F0 m 174 ls []) := by
                        intro x11 x12 h14 H locs hf hM ls hl
                        rw [ej174] at hf
                        refine g_iinc (v := x10 + 1) (lv' := [(7, .int (x10 + 1)), (0, .ref a0), (1, .int a1), (2, .int a2), (3, .int a3), (4, .int x11), (5, .int x12), (6, .int x5)]) G dX0_gift_174 hl (k := 7) rfl rfl (Nat.le_of_ble_eq_true rfl) rfl (fun ls hl => ?_)
                        refine g_goto (tgt := 76) G dX0_gift_177 rfl ?_
                        exact ih76 _ _ _ _ _ _ hf hM ls (lv_sub hl [1, 2, 3, 4, 5, 6, 7, 0] rfl)
                      refine g_if_ne (tgt := 174) G dX0_gift_100 rfl (fun c8 => ?_) (fun c8 => ?_)
                      · have hf := it_neg c8 hf
                        exact J174 _ _ _ _ _ hf hM ls (lv_sub hl [0, 1, 2, 3, 4, 5, 6, 7] rfl)
                      · have hf := it_pos c8 hf
                        refine g_iload G dX0_gift_103 (lv_at hl 4 rfl) ?_
                        refine g_iconst (v := (-1)) G dX0_gift_105 rfl ?_
                        obtain ⟨j127, ej127, hf⟩ := jn_open hf
                        have J127 : ∀ (h15 : PH) (H : Heap) (locs : List Loc), j127 h15 = some (r, h') → PI D A cap H0 h15 H locs → ∀ ls : Array Slot, lv_has ls 8 [(0, .ref a0), (1, .int a1), (2, .int a2), (3, .int a3), (4, .int x8), (5, .int x9), (6, .int x5), (7, .int x10)] → Z H locs (cx H) (sx H) (F0 m 127 ls []) := by
                          intro h15 H locs hf hM ls hl
                          rw [ej127] at hf
                          refine g_aload_n G dX0_gift_127 rfl (lv_at hl 0 rfl) ?_
                          obtain ⟨p7, g16, hf⟩ := vA_open hf
                          refine p_get (k := 10) X hM pc_0 (by decide) q458 rfl g16 dX0_gift_128 ?_
                          refine g_aload_n G dX0_gift_131 rfl (lv_at hl 0 rfl) ?_
                          obtain ⟨p8, g17, hf⟩ := vA_open hf
                          refine p_get (k := 9) X hM pc_0 (by decide) q457 rfl g17 dX0_gift_132 ?_
                          obtain ⟨b7, hf⟩ := ckc_open hf
                          obtain ⟨p9, h16, g18, hf⟩ := bnd_open hf
                          refine p_callV_r (ci := 5) (As := [.ref p8]) (rest := []) X hM hl rfl b7 pcy_X5_copy q1422 q1423 q1424 (kX5_copy g18) rfl (Nat.le_of_ble_eq_true rfl) (Nat.le_of_ble_eq_true rfl) rfl dX0_gift_135 (fun H locs hM => ?_)
                          refine g_iload G dX0_gift_138 (lv_at hl 6 rfl) ?_
                          refine g_iload G dX0_gift_140 (lv_at hl 7 rfl) ?_
                          obtain ⟨b8, hf⟩ := ckc_open hf
                          obtain ⟨h17, g19, hf⟩ := bnv_open hf
                          refine p_callV_v (ci := 5) (As := [.int x5, .int x10]) (rest := []) X hM hl rfl b8 pcy_X5_hears q1468 q1469 q1470 (kX5_hears g19) rfl (Nat.le_of_ble_eq_true rfl) (Nat.le_of_ble_eq_true rfl) rfl dX0_gift_142 (fun H locs hM => ?_)
                          refine g_aload_n G dX0_gift_145 rfl (lv_at hl 0 rfl) ?_
                          obtain ⟨p10, g20, hf⟩ := vA_open hf
                          refine p_get (k := 10) X hM pc_0 (by decide) q458 rfl g20 dX0_gift_146 ?_
                          refine g_iload_n G dX0_gift_149 rfl (lv_at hl 2 rfl) ?_
                          obtain ⟨b9, hf⟩ := ckc_open hf
                          obtain ⟨p11, h18, g21, hf⟩ := bnd_open hf
                          refine p_callV_r (ci := 5) (As := [.int a2]) (rest := []) X hM hl rfl b9 pcy_X5_years q1426 q1427 q1428 (kX5_years g21) rfl (Nat.le_of_ble_eq_true rfl) (Nat.le_of_ble_eq_true rfl) rfl dX0_gift_150 (fun H locs hM => ?_)
                          obtain ⟨v3, g22, hf⟩ := vI_open hf
                          refine p_getN (k := 2) X hM pc_5 (by decide) q401 rfl g22 dX0_gift_153 ?_
                          refine g_iload_n G dX0_gift_156 rfl (lv_at hl 1 rfl) ?_
                          obtain ⟨r8, h19, g23, hf⟩ := bnd_open hf
                          refine p_callS_r (As := [.int v3, .int a1]) (rest := []) X hM hl pcy_X0_has q1302 q914 (kX0_has g23) rfl (Nat.le_of_ble_eq_true rfl) (Nat.le_of_ble_eq_true rfl) rfl dX0_gift_157 (fun H locs hM => ?_)
                          refine g_if_ne (tgt := 166) G dX0_gift_160 rfl (fun c9 => ?_) (fun c9 => ?_)
                          · have hf := it_neg c9 hf
                            refine g_iload G dX0_gift_166 (lv_at hl 6 rfl) ?_
                            refine g_istore (lv' := [(4, .int x5), (0, .ref a0), (1, .int a1), (2, .int a2), (3, .int a3), (5, .int x9), (6, .int x5), (7, .int x10)]) G dX0_gift_168 hl (Nat.le_of_ble_eq_true rfl) rfl (fun ls hl => ?_)
                            refine g_iload G dX0_gift_170 (lv_at hl 7 rfl) ?_
                            refine g_istore (lv' := [(5, .int x10), (4, .int x5), (0, .ref a0), (1, .int a1), (2, .int a2), (3, .int a3), (6, .int x5), (7, .int x10)]) G dX0_gift_172 hl (Nat.le_of_ble_eq_true rfl) rfl (fun ls hl => ?_)
                            exact J174 _ _ _ _ _ hf hM ls (lv_sub hl [2, 3, 4, 5, 1, 0, 6, 7] rfl)
                          · have hf := it_pos c9 hf
                            refine g_goto (tgt := 174) G dX0_gift_163 rfl ?_
                            exact J174 _ _ _ _ _ hf hM ls (lv_sub hl [0, 1, 2, 3, 4, 5, 6, 7] rfl)
                        refine g_icmp_eq (tgt := 127) G dX0_gift_106 rfl (fun c10 => ?_) (fun c10 => ?_)
                        · have hf := it_pos c10 hf
                          exact J127 _ _ _ hf hM ls (lv_sub hl [0, 1, 2, 3, 4, 5, 6, 7] rfl)
                        · have hf := it_neg c10 hf
                          refine g_aload_n G dX0_gift_109 rfl (lv_at hl 0 rfl) ?_
                          refine g_iload G dX0_gift_110 (lv_at hl 7 rfl) ?_
                          obtain ⟨b10, hf⟩ := ckc_open hf
                          obtain ⟨r9, h20, g24, hf⟩ := bnd_open hf
                          refine p_callV_r (ci := 0) (As := [.int x10]) (rest := []) X hM hl rfl b10 pcy_X0_worthOf q1273 q1275 qs37 (kX0_worthOf g24) rfl (Nat.le_of_ble_eq_true rfl) (Nat.le_of_ble_eq_true rfl) rfl dX0_gift_112 (fun H locs hM => ?_)
                          refine g_aload_n G dX0_gift_115 rfl (lv_at hl 0 rfl) ?_
                          refine g_iload G dX0_gift_116 (lv_at hl 5 rfl) ?_
                          obtain ⟨b11, hf⟩ := ckc_open hf
                          obtain ⟨r10, h21, g25, hf⟩ := bnd_open hf
                          refine p_callV_r (ci := 0) (As := [.int x9]) (rest := [.int r9]) X hM hl rfl b11 pcy_X0_worthOf q1273 q1275 qs37 (kX0_worthOf g25) rfl (Nat.le_of_ble_eq_true rfl) (Nat.le_of_ble_eq_true rfl) rfl dX0_gift_118 (fun H locs hM => ?_)
                          refine g_icmp_lt (tgt := 127) G dX0_gift_121 rfl (fun c11 => ?_) (fun c11 => ?_)
                          · have hf := it_pos c11 hf
                            exact J127 _ _ _ hf hM ls (lv_sub hl [0, 1, 2, 3, 4, 5, 6, 7] rfl)
                          · have hf := it_neg c11 hf
                            refine g_goto (tgt := 174) G dX0_gift_124 rfl ?_
                            exact J174 _ _ _ _ _ hf hM ls (lv_sub hl [0, 1, 2, 3, 4, 5, 6, 7] rfl)
                exact L76 FU _ _ _ _ _ _ hf hM ls (lv_sub hl [1, 2, 3, 4, 5, 6, 7, 0] rfl)
          exact L64 FU _ _ _ _ _ _ hf hM ls (lv_sub hl [3, 4, 5, 6, 2, 1, 0] rfl)
        · have hf := it_neg c4 hf
          refine g_iconst (v := (-1)) G dX0_gift_53 rfl ?_
          exact p_iret X hM hf dX0_gift_54
theorem pcy_X0_law : pcY yX0_law cX0_law 7 (Option.some Jvm.ClassFile.FieldType.int) 2 := ⟨q1475, q145, ⟨by decide +kernel, by decide +kernel, by decide +kernel⟩, Nat.le_of_ble_eq_true rfl⟩
noncomputable def fX0_law_L52 (a0 : Nat) (x5 : Int32) (k107 : PH → Option (Int32 × PH)) (s52 : Int32 → PH → Option (Int32 × PH)) (x8 : Int32) (h10 : PH) : Option (Int32 × PH) :=
  ckc (pCls h10 a0) 0 <|
  bnd (fX0_people a0 h10) fun r4 h11 =>
  if r4 ≤ x8 then
    k107 h11
  else
    vA (pF h11 a0 0 10) fun p6 =>
    vA (pF h11 p6 5 7) fun p7 =>
    vA (pF h11 a0 0 9) fun p8 =>
    vI (pF h11 p8 5 1) fun v2 =>
    bnd (fX0_has v2 x8 h11) fun r5 h12 =>
    jn (fun (x9 : Int32) (h13 : PH) =>
      bnv (pSt h13 p7 0 x8 x9) fun h14 =>
      s52 (x8 + 1) h14) fun j100 =>
    if (bI r5) = 0 then
      j100 x5 h12
    else
      vA (pF h12 a0 0 9) fun p9 =>
      vA (pF h12 p9 5 7) fun p10 =>
      ob (pLd h12 p10 0 x8) fun v3 =>
      j100 v3 h12
noncomputable def fX0_law_L30 (D : PD) (a0 : Nat) (a1 : Int32) (k146 : Int32 → Int32 → PH → Option (Int32 × PH)) (s30 : Int32 → Int32 → Int32 → PH → Option (Int32 × PH)) (x3 : Int32) (x4 : Int32) (x5 : Int32) (h4 : PH) : Option (Int32 × PH) :=
  if (9 : Int32) < x5 then
    k146 x3 x4 h4
  else
    vA (pF h4 a0 0 10) fun p1 =>
    vA (pF h4 a0 0 9) fun p2 =>
    ckc (pCls h4 p1) 5 <|
    bnd (fX5_copy p1 p2 h4) fun p3 h5 =>
    jn (fun (h6 : PH) =>
      vA (pF h6 a0 0 10) fun p4 =>
      ckc (pCls h6 p4) 5 <|
      bnd (fX5_years D p4 a1 h6) fun p5 h7 =>
      vI (pF h7 p5 5 2) fun v1 =>
      bnd (fJ16_bitCount v1 h7) fun r3 h8 =>
      jn (fun (x6 : Int32) (x7 : Int32) (h9 : PH) =>
        s30 x6 x7 (x5 + 1) h9) fun j140 =>
      if x4 < r3 then
        j140 x5 r3 h8
      else
        j140 x3 x4 h8) fun k107 =>
    fx (fX0_law_L52 a0 x5 k107) (fun _ _ => none) FU 0 h5
noncomputable def fX0_law (D : PD) (a0 : Nat) (a1 : Int32) (a2 : Int32) (h : PH) : Option (Int32 × PH) :=
  ckc (pCls h a0) 0 <|
  bnd (fX0_isAhead a0 a1 0 20 h) fun r1 h1 =>
  if (bI r1) = 0 then
    some ((-1), h1)
  else
    bnd (fX0_is a2 0 1 h1) fun r2 h2 =>
    if (bI r2) = 0 then
      some ((-1), h2)
    else
      jn (fun (x1 : Int32) (x2 : Int32) (h3 : PH) =>
        if a2 = 0 then
          some (x1, h3)
        else
          some (x2, h3)) fun k146 =>
      fx (fX0_law_L30 D a0 a1 k146) (fun _ _ _ _ => none) FU (-1) (-1) 0 h2
set_option maxHeartbeats 1000000 in
theorem kX0_law {l : Launch} {D : PD} {A : Nat → Prop} {cap : Nat × Nat} {a0 : Nat} {a1 : Int32} {a2 : Int32} {h h' : PH} {r : Int32} (hf : fX0_law D a0 a1 a2 h = some (r, h')) : CMet l D A cap yX0_law cX0_law 7 (Option.some Jvm.ClassFile.FieldType.int) 100 [.ref a0, .int a1, .int a2] h h' (some (.int r)) := by
  unfold fX0_law at hf
  refine p_head (own := RX0) (ini := false) (pn_X0 rfl) rfl (fun q => by cases q) (Nat.le_of_ble_eq_true rfl) (fun m Z cx sx H0 ls X hM hl => ?_)
  have G := X.g
  have hl : lv_has ls 7 [(0, .ref a0), (1, .int a1), (2, .int a2)] := hl
  refine g_aload_n G dX0_law_0 rfl (lv_at hl 0 rfl) ?_
  refine g_iload_n G dX0_law_1 rfl (lv_at hl 1 rfl) ?_
  refine g_iconst (v := 0) G dX0_law_2 rfl ?_
  refine g_bipush (v := 20) G dX0_law_3 rfl ?_
  obtain ⟨b1, hf⟩ := ckc_open hf
  obtain ⟨r1, h1, g1, hf⟩ := bnd_open hf
  refine p_callV_r (ci := 0) (As := [.int a1, .int 0, .int 20]) (rest := []) X hM hl rfl b1 pcy_X0_isAhead q1418 q1420 qs43 (kX0_isAhead g1) rfl (Nat.le_of_ble_eq_true rfl) (Nat.le_of_ble_eq_true rfl) rfl dX0_law_5 (fun H locs hM => ?_)
  refine g_if_eq (tgt := 20) G dX0_law_8 rfl (fun c1 => ?_) (fun c1 => ?_)
  · have hf := it_pos c1 hf
    refine g_iconst (v := (-1)) G dX0_law_20 rfl ?_
    exact p_iret X hM hf dX0_law_21
  · have hf := it_neg c1 hf
    refine g_iload_n G dX0_law_11 rfl (lv_at hl 2 rfl) ?_
    refine g_iconst (v := 0) G dX0_law_12 rfl ?_
    refine g_iconst (v := 1) G dX0_law_13 rfl ?_
    obtain ⟨r2, h2, g2, hf⟩ := bnd_open hf
    refine p_callS_r (As := [.int a2, .int 0, .int 1]) (rest := []) X hM hl pcy_X0_is q1243 q794 (kX0_is g2) rfl (Nat.le_of_ble_eq_true rfl) (Nat.le_of_ble_eq_true rfl) rfl dX0_law_14 (fun H locs hM => ?_)
    refine g_if_ne (tgt := 22) G dX0_law_17 rfl (fun c2 => ?_) (fun c2 => ?_)
    · have hf := it_neg c2 hf
      refine g_iconst (v := (-1)) G dX0_law_22 rfl ?_
      refine g_istore_n (i := 3) (lv' := [(3, .int (-1)), (0, .ref a0), (1, .int a1), (2, .int a2)]) G dX0_law_23 rfl hl (Nat.le_of_ble_eq_true rfl) rfl (fun ls hl => ?_)
      refine g_iconst (v := (-1)) G dX0_law_24 rfl ?_
      refine g_istore (lv' := [(4, .int (-1)), (3, .int (-1)), (0, .ref a0), (1, .int a1), (2, .int a2)]) G dX0_law_25 hl (Nat.le_of_ble_eq_true rfl) rfl (fun ls hl => ?_)
      refine g_iconst (v := 0) G dX0_law_27 rfl ?_
      refine g_istore (lv' := [(5, .int 0), (4, .int (-1)), (3, .int (-1)), (0, .ref a0), (1, .int a1), (2, .int a2)]) G dX0_law_28 hl (Nat.le_of_ble_eq_true rfl) rfl (fun ls hl => ?_)
      obtain ⟨k146, ek146, hf⟩ := jn_open hf
      have K146 : ∀ (x1 : Int32) (x2 : Int32) (h3 : PH) (H : Heap) (locs : List Loc), k146 x1 x2 h3 = some (r, h') → PI D A cap H0 h3 H locs → ∀ ls : Array Slot, lv_has ls 7 [(2, .int a2), (3, .int x1), (4, .int x2)] → Z H locs (cx H) (sx H) (F0 m 146 ls []) := by
        intro x1 x2 h3 H locs hf hM ls hl
        rw [ek146] at hf
        refine g_iload_n G dX0_law_146 rfl (lv_at hl 0 rfl) ?_
        refine g_if_ne (tgt := 154) G dX0_law_147 rfl (fun c3 => ?_) (fun c3 => ?_)
        · have hf := it_neg c3 hf
          refine g_iload G dX0_law_154 (lv_at hl 2 rfl) ?_
          exact p_iret X hM hf dX0_law_156
        · have hf := it_pos c3 hf
          refine g_iload_n G dX0_law_150 rfl (lv_at hl 1 rfl) ?_
          refine g_goto (tgt := 156) G dX0_law_151 rfl ?_
          exact p_iret X hM hf dX0_law_156
      have L30 : ∀ (n : Nat) (x3 : Int32) (x4 : Int32) (x5 : Int32) (h4 : PH) (H : Heap) (locs : List Loc), fx (fX0_law_L30 D a0 a1 k146) (fun _ _ _ _ => none) n x3 x4 x5 h4 = some (r, h') → PI D A cap H0 h4 H locs → ∀ ls : Array Slot, lv_has ls 7 [(0, .ref a0), (1, .int a1), (2, .int a2), (3, .int x3), (4, .int x4), (5, .int x5)] → Z H locs (cx H) (sx H) (F0 m 30 ls []) := by
        intro n
        induction n with
        | zero => intro x3 x4 x5 h4 H locs hf; exact absurd hf (by intro q; cases q)
        | succ n ih30 =>
          intro x3 x4 x5 h4 H locs hf hM ls hl
          rw [fx_s] at hf
          generalize fx (fX0_law_L30 D a0 a1 k146) (fun _ _ _ _ => none) n = s30 at hf ih30
          unfold fX0_law_L30 at hf
          refine g_iload G dX0_law_30 (lv_at hl 5 rfl) ?_
          refine g_bipush (v := 9) G dX0_law_32 rfl ?_
          refine g_icmp_gt (tgt := 146) G dX0_law_34 rfl (fun c4 => ?_) (fun c4 => ?_)
          · have hf := it_pos c4 hf
            exact K146 _ _ _ _ _ hf hM ls (lv_sub hl [2, 3, 4] rfl)
          · have hf := it_neg c4 hf
            refine g_aload_n G dX0_law_37 rfl (lv_at hl 0 rfl) ?_
            obtain ⟨p1, g3, hf⟩ := vA_open hf
            refine p_get (k := 10) X hM pc_0 (by decide) q458 rfl g3 dX0_law_38 ?_
            refine g_aload_n G dX0_law_41 rfl (lv_at hl 0 rfl) ?_
            obtain ⟨p2, g4, hf⟩ := vA_open hf
            refine p_get (k := 9) X hM pc_0 (by decide) q457 rfl g4 dX0_law_42 ?_
            obtain ⟨b2, hf⟩ := ckc_open hf
            obtain ⟨p3, h5, g5, hf⟩ := bnd_open hf
            refine p_callV_r (ci := 5) (As := [.ref p2]) (rest := []) X hM hl rfl b2 pcy_X5_copy q1422 q1423 q1424 (kX5_copy g5) rfl (Nat.le_of_ble_eq_true rfl) (Nat.le_of_ble_eq_true rfl) rfl dX0_law_45 (fun H locs hM => ?_)
            refine g_pop G dX0_law_48 rfl ?_
            refine g_iconst (v := 0) G dX0_law_49 rfl ?_
            refine g_istore (lv' := [(6, .int 0), (0, .ref a0), (1, .int a1), (2, .int a2), (3, .int x3), (4, .int x4), (5, .int x5)]) G dX0_law_50 hl (Nat.le_of_ble_eq_true rfl) rfl (fun ls hl => ?_)
            obtain ⟨k107, ek107, hf⟩ := jn_open hf
            have K107 : ∀ (h6 : PH) (H : Heap) (locs : List Loc), k107 h6 = some (r, h') → PI D A cap H0 h6 H locs → ∀ ls : Array Slot, lv_has ls 7 [(0, .ref a0), (1, .int a1), (2, .int a2), (3, .int x3), (4, .int x4), (5, .int x5)] → Z H locs (cx H) (sx H) (F0 m 107 ls []) := by
              intro h6 H locs hf hM ls hl
              rw [ek107] at hf
              refine g_aload_n G dX0_law_107 rfl (lv_at hl 0 rfl) ?_
              obtain ⟨p4, g6, hf⟩ := vA_open hf
              refine p_get (k := 10) X hM pc_0 (by decide) q458 rfl g6 dX0_law_108 ?_
              refine g_iload_n G dX0_law_111 rfl (lv_at hl 1 rfl) ?_
              obtain ⟨b3, hf⟩ := ckc_open hf
              obtain ⟨p5, h7, g7, hf⟩ := bnd_open hf
              refine p_callV_r (ci := 5) (As := [.int a1]) (rest := []) X hM hl rfl b3 pcy_X5_years q1426 q1427 q1428 (kX5_years g7) rfl (Nat.le_of_ble_eq_true rfl) (Nat.le_of_ble_eq_true rfl) rfl dX0_law_112 (fun H locs hM => ?_)
              obtain ⟨v1, g8, hf⟩ := vI_open hf
              refine p_getN (k := 2) X hM pc_5 (by decide) q401 rfl g8 dX0_law_115 ?_
              obtain ⟨r3, h8, g9, hf⟩ := bnd_open hf
              refine p_callS_r (As := [.int v1]) (rest := []) X hM hl pcy_J16_bitCount q1228 q1229 (kJ16_bitCount g9) rfl (Nat.le_of_ble_eq_true rfl) (Nat.le_of_ble_eq_true rfl) rfl dX0_law_118 (fun H locs hM => ?_)
              refine g_istore (lv' := [(6, .int r3), (0, .ref a0), (1, .int a1), (2, .int a2), (3, .int x3), (4, .int x4), (5, .int x5)]) G dX0_law_121 hl (Nat.le_of_ble_eq_true rfl) rfl (fun ls hl => ?_)
              refine g_iload G dX0_law_123 (lv_at hl 0 rfl) ?_
              refine g_iload G dX0_law_125 (lv_at hl 5 rfl) ?_
              obtain ⟨j140, ej140, hf⟩ := jn_open hf
              have J140 : ∀ (x6 : Int32) (x7 : Int32) (h9 : PH) (H : Heap) (locs : List Loc), j140 x6 x7 h9 = some (r, h') → PI D A cap H0 h9 H locs → ∀ ls : Array Slot, lv_has ls 7 [(0, .ref a0), (1, .int a1), (2, .int a2), (3, .int x6), (4, .int x7), (5, .int x5)] → Z H locs (cx H) (sx H) (F0 m 140 ls []) := by
                intro x6 x7 h9 H locs hf hM ls hl
                rw [ej140] at hf
                refine g_iinc (v := x5 + 1) (lv' := [(5, .int (x5 + 1)), (0, .ref a0), (1, .int a1), (2, .int a2), (3, .int x6), (4, .int x7)]) G dX0_law_140 hl (k := 5) rfl rfl (Nat.le_of_ble_eq_true rfl) rfl (fun ls hl => ?_)
                refine g_goto (tgt := 30) G dX0_law_143 rfl ?_
                exact ih30 _ _ _ _ _ _ hf hM ls (lv_sub hl [1, 2, 3, 4, 5, 0] rfl)
              refine g_icmp_gt (tgt := 133) G dX0_law_127 rfl (fun c5 => ?_) (fun c5 => ?_)
              · have hf := it_pos c5 hf
                refine g_iload G dX0_law_133 (lv_at hl 0 rfl) ?_
                refine g_istore (lv' := [(4, .int r3), (6, .int r3), (0, .ref a0), (1, .int a1), (2, .int a2), (3, .int x3), (5, .int x5)]) G dX0_law_135 hl (Nat.le_of_ble_eq_true rfl) rfl (fun ls hl => ?_)
                refine g_iload G dX0_law_137 (lv_at hl 6 rfl) ?_
                refine g_istore_n (i := 3) (lv' := [(3, .int x5), (4, .int r3), (6, .int r3), (0, .ref a0), (1, .int a1), (2, .int a2), (5, .int x5)]) G dX0_law_139 rfl hl (Nat.le_of_ble_eq_true rfl) rfl (fun ls hl => ?_)
                exact J140 _ _ _ _ _ hf hM ls (lv_sub hl [3, 4, 5, 0, 1, 6] rfl)
              · have hf := it_neg c5 hf
                refine g_goto (tgt := 140) G dX0_law_130 rfl ?_
                exact J140 _ _ _ _ _ hf hM ls (lv_sub hl [1, 2, 3, 4, 5, 6] rfl)
            have L52 : ∀ (n : Nat) (x8 : Int32) (h10 : PH) (H : Heap) (locs : List Loc), fx (fX0_law_L52 a0 x5 k107) (fun _ _ => none) n x8 h10 = some (r, h') → PI D A cap H0 h10 H locs → ∀ ls : Array Slot, lv_has ls 7 [(0, .ref a0), (1, .int a1), (2, .int a2), (3, .int x3), (4, .int x4), (5, .int x5), (6, .int x8)] → Z H locs (cx H) (sx H) (F0 m 52 ls []) := by
              intro n
              induction n with
              | zero => intro x8 h10 H locs hf; exact absurd hf (by intro q; cases q)
              | succ n ih52 =>
                intro x8 h10 H locs hf hM ls hl
                rw [fx_s] at hf
                generalize fx (fX0_law_L52 a0 x5 k107) (fun _ _ => none) n = s52 at hf ih52
                unfold fX0_law_L52 at hf
                refine g_iload G dX0_law_52 (lv_at hl 6 rfl) ?_
                refine g_aload_n G dX0_law_54 rfl (lv_at hl 0 rfl) ?_
                obtain ⟨b4, hf⟩ := ckc_open hf
                obtain ⟨r4, h11, g10, hf⟩ := bnd_open hf
                refine p_callV_r (ci := 0) (As := []) (rest := [.int x8]) X hM hl rfl b4 pcy_X0_people q1227 q1208 qs34 (kX0_people g10) rfl (Nat.le_of_ble_eq_true rfl) (Nat.le_of_ble_eq_true rfl) rfl dX0_law_55 (fun H locs hM => ?_)
                refine g_icmp_ge (tgt := 107) G dX0_law_58 rfl (fun c6 => ?_) (fun c6 => ?_)
                · have hf := it_pos c6 hf
                  exact K107 _ _ _ hf hM ls (lv_sub hl [0, 1, 2, 3, 4, 5] rfl)
                · have hf := it_neg c6 hf
                  refine g_aload_n G dX0_law_61 rfl (lv_at hl 0 rfl) ?_
                  obtain ⟨p6, g11, hf⟩ := vA_open hf
                  refine p_get (k := 10) X hM pc_0 (by decide) q458 rfl g11 dX0_law_62 ?_
                  obtain ⟨p7, g12, hf⟩ := vA_open hf
                  refine p_getN (k := 7) X hM pc_5 (by decide) q411 rfl g12 dX0_law_65 ?_
                  refine g_iload G dX0_law_68 (lv_at hl 6 rfl) ?_
                  refine g_aload_n G dX0_law_70 rfl (lv_at hl 0 rfl) ?_
                  obtain ⟨p8, g13, hf⟩ := vA_open hf
                  refine p_get (k := 9) X hM pc_0 (by decide) q457 rfl g13 dX0_law_71 ?_
                  obtain ⟨v2, g14, hf⟩ := vI_open hf
                  refine p_getN (k := 1) X hM pc_5 (by decide) q399 rfl g14 dX0_law_74 ?_
                  refine g_iload G dX0_law_77 (lv_at hl 6 rfl) ?_
                  obtain ⟨r5, h12, g15, hf⟩ := bnd_open hf
                  refine p_callS_r (As := [.int v2, .int x8]) (rest := [.int x8, .ref p7]) X hM hl pcy_X0_has q1302 q914 (kX0_has g15) rfl (Nat.le_of_ble_eq_true rfl) (Nat.le_of_ble_eq_true rfl) rfl dX0_law_79 (fun H locs hM => ?_)
                  obtain ⟨j100, ej100, hf⟩ := jn_open hf
                  have J100 : ∀ (x9 : Int32) (h13 : PH) (H : Heap) (locs : List Loc), j100 x9 h13 = some (r, h') → PI D A cap H0 h13 H locs → ∀ ls : Array Slot, lv_has ls 7 [(0, .ref a0), (1, .int a1), (2, .int a2), (3, .int x3), (4, .int x4), (5, .int x5), (6, .int x8)] → Z H locs (cx H) (sx H) (F0 m 100 ls [.int x9, .int x8, .ref p7]) := by
                    intro x9 h13 H locs hf hM ls hl
                    rw [ej100] at hf
                    obtain ⟨h14, g16, hf⟩ := bnv_open hf
                    refine p_iast X hM g16 dX0_law_100 (fun H locs hM => ?_)
                    refine g_iinc (v := x8 + 1) (lv' := [(6, .int (x8 + 1)), (0, .ref a0), (1, .int a1), (2, .int a2), (3, .int x3), (4, .int x4), (5, .int x5)]) G dX0_law_101 hl (k := 6) rfl rfl (Nat.le_of_ble_eq_true rfl) rfl (fun ls hl => ?_)
                    refine g_goto (tgt := 52) G dX0_law_104 rfl ?_
                    exact ih52 _ _ _ _ hf hM ls (lv_sub hl [1, 2, 3, 4, 5, 6, 0] rfl)
                  refine g_if_eq (tgt := 98) G dX0_law_82 rfl (fun c7 => ?_) (fun c7 => ?_)
                  · have hf := it_pos c7 hf
                    refine g_iload G dX0_law_98 (lv_at hl 5 rfl) ?_
                    exact J100 _ _ _ _ hf hM ls (lv_sub hl [0, 1, 2, 3, 4, 5, 6] rfl)
                  · have hf := it_neg c7 hf
                    refine g_aload_n G dX0_law_85 rfl (lv_at hl 0 rfl) ?_
                    obtain ⟨p9, g17, hf⟩ := vA_open hf
                    refine p_get (k := 9) X hM pc_0 (by decide) q457 rfl g17 dX0_law_86 ?_
                    obtain ⟨p10, g18, hf⟩ := vA_open hf
                    refine p_getN (k := 7) X hM pc_5 (by decide) q411 rfl g18 dX0_law_89 ?_
                    refine g_iload G dX0_law_92 (lv_at hl 6 rfl) ?_
                    obtain ⟨v3, g19, hf⟩ := ob_open hf
                    refine p_iald X hM g19 dX0_law_94 ?_
                    refine g_goto (tgt := 100) G dX0_law_95 rfl ?_
                    exact J100 _ _ _ _ hf hM ls (lv_sub hl [0, 1, 2, 3, 4, 5, 6] rfl)
            exact L52 FU _ _ _ _ hf hM ls (lv_sub hl [1, 2, 3, 4, 5, 6, 0] rfl)
      exact L30 FU _ _ _ _ _ _ hf hM ls (lv_sub hl [3, 4, 5, 2, 1, 0] rfl)
    · have hf := it_pos c2 hf
      refine g_iconst (v := (-1)) G dX0_law_20 rfl ?_
      exact p_iret X hM hf dX0_law_21
theorem pcy_X0_byteAt : pcY yX0_byteAt cX0_byteAt 2 (Option.some Jvm.ClassFile.FieldType.int) 1 := ⟨q1483, q145, ⟨by decide +kernel, by decide +kernel, by decide +kernel⟩, Nat.le_of_ble_eq_true rfl⟩
noncomputable def fX0_byteAt (a0 : Nat) (a1 : Int32) (h : PH) : Option (Int32 × PH) :=
  vA (pF h a0 0 1) fun p1 =>
  ob (pLd h p1 2 a1) fun v1 =>
  some ((v1 &&& 255), h)
set_option maxHeartbeats 1000000 in
theorem kX0_byteAt {l : Launch} {D : PD} {A : Nat → Prop} {cap : Nat × Nat} {a0 : Nat} {a1 : Int32} {h h' : PH} {r : Int32} (hf : fX0_byteAt a0 a1 h = some (r, h')) : CMet l D A cap yX0_byteAt cX0_byteAt 2 (Option.some Jvm.ClassFile.FieldType.int) 1 [.ref a0, .int a1] h h' (some (.int r)) := by
  unfold fX0_byteAt at hf
  refine p_head (own := RX0) (ini := false) (pn_X0 rfl) rfl (fun q => by cases q) (Nat.le_of_ble_eq_true rfl) (fun m Z cx sx H0 ls X hM hl => ?_)
  have G := X.g
  have hl : lv_has ls 2 [(0, .ref a0), (1, .int a1)] := hl
  refine g_aload_n G dX0_byteAt_0 rfl (lv_at hl 0 rfl) ?_
  obtain ⟨p1, g1, hf⟩ := vA_open hf
  refine p_get (k := 1) X hM pc_0 (by decide) q448 rfl g1 dX0_byteAt_1 ?_
  refine g_iload_n G dX0_byteAt_4 rfl (lv_at hl 1 rfl) ?_
  obtain ⟨v1, g2, hf⟩ := ob_open hf
  refine p_bald X hM g2 dX0_byteAt_5 ?_
  refine g_sipush (v := 255) G dX0_byteAt_6 rfl ?_
  refine g_iand G dX0_byteAt_9 ?_
  exact p_iret X hM hf dX0_byteAt_10
theorem pcy_X0_hear : pcY yX0_hear cX0_hear 4 (Option.some Jvm.ClassFile.FieldType.int) 0 := ⟨q1479, q145, ⟨by decide +kernel, by decide +kernel, by decide +kernel⟩, Nat.le_of_ble_eq_true rfl⟩
noncomputable def fX0_hear_L92 (a0 : Nat) (k134 : PH → Option (Int32 × PH)) (s92 : Int32 → PH → Option (Int32 × PH)) (x3 : Int32) (h6 : PH) : Option (Int32 × PH) :=
  vI (pF h6 a0 0 13) fun v2 =>
  if v2 ≤ x3 then
    k134 h6
  else
    vA (pF h6 a0 0 11) fun p1 =>
    ckc (pCls h6 a0) 0 <|
    bnd (fX0_byteAt a0 ((2 : Int32) * x3) h6) fun r2 h7 =>
    bnv (pSt h7 p1 0 x3 r2) fun h8 =>
    vA (pF h8 a0 0 12) fun p2 =>
    ckc (pCls h8 a0) 0 <|
    bnd (fX0_byteAt a0 (((2 : Int32) * x3) + 1) h8) fun r3 h9 =>
    bnv (pSt h9 p2 0 x3 r3) fun h10 =>
    s92 (x3 + 1) h10
noncomputable def fX0_hear_L29 (a0 : Nat) (r1 : Int32) (k73 : Bool → PH → Option (Int32 × PH)) (s29 : Bool → Int32 → PH → Option (Int32 × PH)) (x4 : Bool) (x5 : Int32) (h12 : PH) : Option (Int32 × PH) :=
  if r1 ≤ x5 then
    k73 x4 h12
  else
    if (bI x4) = 0 then
      k73 x4 h12
    else
      ckc (pCls h12 a0) 0 <|
      bnd (fX0_byteAt a0 x5 h12) fun r5 h13 =>
      ckc (pCls h13 a0) 0 <|
      bnd (fX0_isPerson a0 r5 h13) fun r6 h14 =>
      jn (fun (x6 : Bool) (h15 : PH) =>
        s29 x6 (x5 + 2) h15) fun j66 =>
      jn (fun (h16 : PH) =>
        j66 false h16) fun j65 =>
      if (bI r6) = 0 then
        j65 h14
      else
        ckc (pCls h14 a0) 0 <|
        bnd (fX0_byteAt a0 (x5 + 1) h14) fun r7 h17 =>
        if (3 : Int32) ≤ r7 then
          j65 h17
        else
          j66 true h17
noncomputable def fX0_hear (a0 : Nat) (h : PH) : Option (Int32 × PH) :=
  ckc (pCls h a0) 0 <|
  bnd (fX0_taken a0 h) fun r1 h1 =>
  jn (fun (x1 : Bool) (h2 : PH) =>
    jn (fun (x2 : Bool) (h3 : PH) =>
      if (bI x2) = 0 then
        ckc (pCls h3 a0) 0 <|
        bnd (fX0_refuses a0 1 h3) fun r4 h11 =>
        some (r4, h11)
      else
        bnv (pPut h3 a0 0 13 (.int (r1 / 2))) fun h4 =>
        jn (fun (h5 : PH) =>
          vI (pF h5 a0 0 13) fun v1 =>
          some (v1, h5)) fun k134 =>
        fx (fX0_hear_L92 a0 k134) (fun _ _ => none) FU 0 h4) fun k73 =>
    fx (fX0_hear_L29 a0 r1 k73) (fun _ _ _ => none) FU x1 0 h2) fun j26 =>
  jn (fun (h18 : PH) =>
    j26 false h18) fun j25 =>
  if r1 ≤ 0 then
    j25 h1
  else
    if (r1 - r1 / 2 * 2) = 0 then
      if (32 : Int32) < r1 then
        j25 h1
      else
        j26 true h1
    else
      j25 h1
set_option maxHeartbeats 1000000 in
theorem kX0_hear {l : Launch} {D : PD} {A : Nat → Prop} {cap : Nat × Nat} {a0 : Nat} {h h' : PH} {r : Int32} (hf : fX0_hear a0 h = some (r, h')) : CMet l D A cap yX0_hear cX0_hear 4 (Option.some Jvm.ClassFile.FieldType.int) 4 [.ref a0] h h' (some (.int r)) := by
  unfold fX0_hear at hf
  refine p_head (own := RX0) (ini := false) (pn_X0 rfl) rfl (fun q => by cases q) (Nat.le_of_ble_eq_true rfl) (fun m Z cx sx H0 ls X hM hl => ?_)
  have G := X.g
  have hl : lv_has ls 4 [(0, .ref a0)] := hl
  refine g_aload_n G dX0_hear_0 rfl (lv_at hl 0 rfl) ?_
  obtain ⟨b1, hf⟩ := ckc_open hf
  obtain ⟨r1, h1, g1, hf⟩ := bnd_open hf
  refine p_callV_r (ci := 0) (As := []) (rest := []) X hM hl rfl b1 pcy_X0_taken q533 q535 qs3 (kX0_taken g1) rfl (Nat.le_of_ble_eq_true rfl) (Nat.le_of_ble_eq_true rfl) rfl dX0_hear_1 (fun H locs hM => ?_)
  refine g_istore_n (i := 1) (lv' := [(1, .int r1), (0, .ref a0)]) G dX0_hear_4 rfl hl (Nat.le_of_ble_eq_true rfl) rfl (fun ls hl => ?_)
  refine g_iload_n G dX0_hear_5 rfl (lv_at hl 0 rfl) ?_
  obtain ⟨j26, ej26, hf⟩ := jn_open hf
  have J26 : ∀ (x1 : Bool) (h2 : PH) (H : Heap) (locs : List Loc), j26 x1 h2 = some (r, h') → PI D A cap H0 h2 H locs → ∀ ls : Array Slot, lv_has ls 4 [(0, .ref a0), (1, .int r1)] → Z H locs (cx H) (sx H) (F0 m 26 ls [.int (bI x1)]) := by
    intro x1 h2 H locs hf hM ls hl
    rw [ej26] at hf
    refine g_istore_n (i := 2) (lv' := [(2, .int (bI x1)), (0, .ref a0), (1, .int r1)]) G dX0_hear_26 rfl hl (Nat.le_of_ble_eq_true rfl) rfl (fun ls hl => ?_)
    refine g_iconst (v := 0) G dX0_hear_27 rfl ?_
    refine g_istore_n (i := 3) (lv' := [(3, .int 0), (2, .int (bI x1)), (0, .ref a0), (1, .int r1)]) G dX0_hear_28 rfl hl (Nat.le_of_ble_eq_true rfl) rfl (fun ls hl => ?_)
    obtain ⟨k73, ek73, hf⟩ := jn_open hf
    have K73 : ∀ (x2 : Bool) (h3 : PH) (H : Heap) (locs : List Loc), k73 x2 h3 = some (r, h') → PI D A cap H0 h3 H locs → ∀ ls : Array Slot, lv_has ls 4 [(0, .ref a0), (1, .int r1), (2, .int (bI x2))] → Z H locs (cx H) (sx H) (F0 m 73 ls []) := by
      intro x2 h3 H locs hf hM ls hl
      rw [ek73] at hf
      refine g_iload_n G dX0_hear_73 rfl (lv_at hl 2 rfl) ?_
      refine g_if_ne (tgt := 83) G dX0_hear_74 rfl (fun c1 => ?_) (fun c1 => ?_)
      · have hf := it_neg c1 hf
        refine g_aload_n G dX0_hear_83 rfl (lv_at hl 0 rfl) ?_
        refine g_iload_n G dX0_hear_84 rfl (lv_at hl 1 rfl) ?_
        refine g_iconst (v := 2) G dX0_hear_85 rfl ?_
        refine g_idiv G dX0_hear_86 (by decide) ?_
        obtain ⟨h4, g2, hf⟩ := bnv_open hf
        refine p_put (k := 13) X hM pc_0 (by decide) q461 rfl rfl rfl rfl g2 dX0_hear_87 (fun H locs hM => ?_)
        refine g_iconst (v := 0) G dX0_hear_90 rfl ?_
        refine g_istore_n (i := 3) (lv' := [(3, .int 0), (0, .ref a0), (1, .int r1), (2, .int (bI x2))]) G dX0_hear_91 rfl hl (Nat.le_of_ble_eq_true rfl) rfl (fun ls hl => ?_)
        obtain ⟨k134, ek134, hf⟩ := jn_open hf
        have K134 : ∀ (h5 : PH) (H : Heap) (locs : List Loc), k134 h5 = some (r, h') → PI D A cap H0 h5 H locs → ∀ ls : Array Slot, lv_has ls 4 [(0, .ref a0)] → Z H locs (cx H) (sx H) (F0 m 134 ls []) := by
          intro h5 H locs hf hM ls hl
          rw [ek134] at hf
          refine g_aload_n G dX0_hear_134 rfl (lv_at hl 0 rfl) ?_
          obtain ⟨v1, g3, hf⟩ := vI_open hf
          refine p_get (k := 13) X hM pc_0 (by decide) q461 rfl g3 dX0_hear_135 ?_
          exact p_iret X hM hf dX0_hear_138
        have L92 : ∀ (n : Nat) (x3 : Int32) (h6 : PH) (H : Heap) (locs : List Loc), fx (fX0_hear_L92 a0 k134) (fun _ _ => none) n x3 h6 = some (r, h') → PI D A cap H0 h6 H locs → ∀ ls : Array Slot, lv_has ls 4 [(0, .ref a0), (3, .int x3)] → Z H locs (cx H) (sx H) (F0 m 92 ls []) := by
          intro n
          induction n with
          | zero => intro x3 h6 H locs hf; exact absurd hf (by intro q; cases q)
          | succ n ih92 =>
            intro x3 h6 H locs hf hM ls hl
            rw [fx_s] at hf
            generalize fx (fX0_hear_L92 a0 k134) (fun _ _ => none) n = s92 at hf ih92
            unfold fX0_hear_L92 at hf
            refine g_iload_n G dX0_hear_92 rfl (lv_at hl 1 rfl) ?_
            refine g_aload_n G dX0_hear_93 rfl (lv_at hl 0 rfl) ?_
            obtain ⟨v2, g4, hf⟩ := vI_open hf
            refine p_get (k := 13) X hM pc_0 (by decide) q461 rfl g4 dX0_hear_94 ?_
            refine g_icmp_ge (tgt := 134) G dX0_hear_97 rfl (fun c2 => ?_) (fun c2 => ?_)
            · have hf := it_pos c2 hf
              exact K134 _ _ _ hf hM ls (lv_sub hl [0] rfl)
            · have hf := it_neg c2 hf
              refine g_aload_n G dX0_hear_100 rfl (lv_at hl 0 rfl) ?_
              obtain ⟨p1, g5, hf⟩ := vA_open hf
              refine p_get (k := 11) X hM pc_0 (by decide) q459 rfl g5 dX0_hear_101 ?_
              refine g_iload_n G dX0_hear_104 rfl (lv_at hl 1 rfl) ?_
              refine g_aload_n G dX0_hear_105 rfl (lv_at hl 0 rfl) ?_
              refine g_iconst (v := 2) G dX0_hear_106 rfl ?_
              refine g_iload_n G dX0_hear_107 rfl (lv_at hl 1 rfl) ?_
              refine g_imul G dX0_hear_108 ?_
              obtain ⟨b2, hf⟩ := ckc_open hf
              obtain ⟨r2, h7, g6, hf⟩ := bnd_open hf
              refine p_callV_r (ci := 0) (As := [.int ((2 : Int32) * x3)]) (rest := [.int x3, .ref p1]) X hM hl rfl b2 pcy_X0_byteAt q1480 q1482 qs47 (kX0_byteAt g6) rfl (Nat.le_of_ble_eq_true rfl) (Nat.le_of_ble_eq_true rfl) rfl dX0_hear_109 (fun H locs hM => ?_)
              obtain ⟨h8, g7, hf⟩ := bnv_open hf
              refine p_iast X hM g7 dX0_hear_112 (fun H locs hM => ?_)
              refine g_aload_n G dX0_hear_113 rfl (lv_at hl 0 rfl) ?_
              obtain ⟨p2, g8, hf⟩ := vA_open hf
              refine p_get (k := 12) X hM pc_0 (by decide) q460 rfl g8 dX0_hear_114 ?_
              refine g_iload_n G dX0_hear_117 rfl (lv_at hl 1 rfl) ?_
              refine g_aload_n G dX0_hear_118 rfl (lv_at hl 0 rfl) ?_
              refine g_iconst (v := 2) G dX0_hear_119 rfl ?_
              refine g_iload_n G dX0_hear_120 rfl (lv_at hl 1 rfl) ?_
              refine g_imul G dX0_hear_121 ?_
              refine g_iconst (v := 1) G dX0_hear_122 rfl ?_
              refine g_iadd G dX0_hear_123 ?_
              obtain ⟨b3, hf⟩ := ckc_open hf
              obtain ⟨r3, h9, g9, hf⟩ := bnd_open hf
              refine p_callV_r (ci := 0) (As := [.int (((2 : Int32) * x3) + 1)]) (rest := [.int x3, .ref p2]) X hM hl rfl b3 pcy_X0_byteAt q1480 q1482 qs47 (kX0_byteAt g9) rfl (Nat.le_of_ble_eq_true rfl) (Nat.le_of_ble_eq_true rfl) rfl dX0_hear_124 (fun H locs hM => ?_)
              obtain ⟨h10, g10, hf⟩ := bnv_open hf
              refine p_iast X hM g10 dX0_hear_127 (fun H locs hM => ?_)
              refine g_iinc (v := x3 + 1) (lv' := [(3, .int (x3 + 1)), (0, .ref a0)]) G dX0_hear_128 hl (k := 1) rfl rfl (Nat.le_of_ble_eq_true rfl) rfl (fun ls hl => ?_)
              refine g_goto (tgt := 92) G dX0_hear_131 rfl ?_
              exact ih92 _ _ _ _ hf hM ls (lv_sub hl [1, 0] rfl)
        exact L92 FU _ _ _ _ hf hM ls (lv_sub hl [1, 0] rfl)
      · have hf := it_pos c1 hf
        refine g_aload_n G dX0_hear_77 rfl (lv_at hl 0 rfl) ?_
        refine g_iconst (v := 1) G dX0_hear_78 rfl ?_
        obtain ⟨b4, hf⟩ := ckc_open hf
        obtain ⟨r4, h11, g11, hf⟩ := bnd_open hf
        refine p_callV_r (ci := 0) (As := [.int 1]) (rest := []) X hM hl rfl b4 pcy_X0_refuses q516 q518 qs1 (kX0_refuses g11) rfl (Nat.le_of_ble_eq_true rfl) (Nat.le_of_ble_eq_true rfl) rfl dX0_hear_79 (fun H locs hM => ?_)
        exact p_iret X hM hf dX0_hear_82
    have L29 : ∀ (n : Nat) (x4 : Bool) (x5 : Int32) (h12 : PH) (H : Heap) (locs : List Loc), fx (fX0_hear_L29 a0 r1 k73) (fun _ _ _ => none) n x4 x5 h12 = some (r, h') → PI D A cap H0 h12 H locs → ∀ ls : Array Slot, lv_has ls 4 [(0, .ref a0), (1, .int r1), (2, .int (bI x4)), (3, .int x5)] → Z H locs (cx H) (sx H) (F0 m 29 ls []) := by
      intro n
      induction n with
      | zero => intro x4 x5 h12 H locs hf; exact absurd hf (by intro q; cases q)
      | succ n ih29 =>
        intro x4 x5 h12 H locs hf hM ls hl
        rw [fx_s] at hf
        generalize fx (fX0_hear_L29 a0 r1 k73) (fun _ _ _ => none) n = s29 at hf ih29
        unfold fX0_hear_L29 at hf
        refine g_iload_n G dX0_hear_29 rfl (lv_at hl 3 rfl) ?_
        refine g_iload_n G dX0_hear_30 rfl (lv_at hl 1 rfl) ?_
        refine g_icmp_ge (tgt := 73) G dX0_hear_31 rfl (fun c3 => ?_) (fun c3 => ?_)
        · have hf := it_pos c3 hf
          exact K73 _ _ _ _ hf hM ls (lv_sub hl [0, 1, 2] rfl)
        · have hf := it_neg c3 hf
          refine g_iload_n G dX0_hear_34 rfl (lv_at hl 2 rfl) ?_
          refine g_if_eq (tgt := 73) G dX0_hear_35 rfl (fun c4 => ?_) (fun c4 => ?_)
          · have hf := it_pos c4 hf
            exact K73 _ _ _ _ hf hM ls (lv_sub hl [0, 1, 2] rfl)
          · have hf := it_neg c4 hf
            refine g_aload_n G dX0_hear_38 rfl (lv_at hl 0 rfl) ?_
            refine g_aload_n G dX0_hear_39 rfl (lv_at hl 0 rfl) ?_
            refine g_iload_n G dX0_hear_40 rfl (lv_at hl 3 rfl) ?_
            obtain ⟨b5, hf⟩ := ckc_open hf
            obtain ⟨r5, h13, g12, hf⟩ := bnd_open hf
            refine p_callV_r (ci := 0) (As := [.int x5]) (rest := [.ref a0]) X hM hl rfl b5 pcy_X0_byteAt q1480 q1482 qs47 (kX0_byteAt g12) rfl (Nat.le_of_ble_eq_true rfl) (Nat.le_of_ble_eq_true rfl) rfl dX0_hear_41 (fun H locs hM => ?_)
            obtain ⟨b6, hf⟩ := ckc_open hf
            obtain ⟨r6, h14, g13, hf⟩ := bnd_open hf
            refine p_callV_r (ci := 0) (As := [.int r5]) (rest := []) X hM hl rfl b6 pcy_X0_isPerson q1290 q1292 qs39 (kX0_isPerson g13) rfl (Nat.le_of_ble_eq_true rfl) (Nat.le_of_ble_eq_true rfl) rfl dX0_hear_44 (fun H locs hM => ?_)
            obtain ⟨j66, ej66, hf⟩ := jn_open hf
            have J66 : ∀ (x6 : Bool) (h15 : PH) (H : Heap) (locs : List Loc), j66 x6 h15 = some (r, h') → PI D A cap H0 h15 H locs → ∀ ls : Array Slot, lv_has ls 4 [(0, .ref a0), (1, .int r1), (3, .int x5)] → Z H locs (cx H) (sx H) (F0 m 66 ls [.int (bI x6)]) := by
              intro x6 h15 H locs hf hM ls hl
              rw [ej66] at hf
              refine g_istore_n (i := 2) (lv' := [(2, .int (bI x6)), (0, .ref a0), (1, .int r1), (3, .int x5)]) G dX0_hear_66 rfl hl (Nat.le_of_ble_eq_true rfl) rfl (fun ls hl => ?_)
              refine g_iinc (v := x5 + 2) (lv' := [(3, .int (x5 + 2)), (2, .int (bI x6)), (0, .ref a0), (1, .int r1)]) G dX0_hear_67 hl (k := 3) rfl rfl (Nat.le_of_ble_eq_true rfl) rfl (fun ls hl => ?_)
              refine g_goto (tgt := 29) G dX0_hear_70 rfl ?_
              exact ih29 _ _ _ _ _ hf hM ls (lv_sub hl [2, 3, 1, 0] rfl)
            obtain ⟨j65, ej65, hf⟩ := jn_open hf
            have J65 : ∀ (h16 : PH) (H : Heap) (locs : List Loc), j65 h16 = some (r, h') → PI D A cap H0 h16 H locs → ∀ ls : Array Slot, lv_has ls 4 [(0, .ref a0), (1, .int r1), (3, .int x5)] → Z H locs (cx H) (sx H) (F0 m 65 ls []) := by
              intro h16 H locs hf hM ls hl
              rw [ej65] at hf
              refine g_iconst (v := 0) G dX0_hear_65 rfl ?_
              exact J66 _ _ _ _ hf hM ls (lv_sub hl [0, 1, 2] rfl)
            refine g_if_eq (tgt := 65) G dX0_hear_47 rfl (fun c5 => ?_) (fun c5 => ?_)
            · have hf := it_pos c5 hf
              exact J65 _ _ _ hf hM ls (lv_sub hl [0, 1, 3] rfl)
            · have hf := it_neg c5 hf
              refine g_aload_n G dX0_hear_50 rfl (lv_at hl 0 rfl) ?_
              refine g_iload_n G dX0_hear_51 rfl (lv_at hl 3 rfl) ?_
              refine g_iconst (v := 1) G dX0_hear_52 rfl ?_
              refine g_iadd G dX0_hear_53 ?_
              obtain ⟨b7, hf⟩ := ckc_open hf
              obtain ⟨r7, h17, g14, hf⟩ := bnd_open hf
              refine p_callV_r (ci := 0) (As := [.int (x5 + 1)]) (rest := []) X hM hl rfl b7 pcy_X0_byteAt q1480 q1482 qs47 (kX0_byteAt g14) rfl (Nat.le_of_ble_eq_true rfl) (Nat.le_of_ble_eq_true rfl) rfl dX0_hear_54 (fun H locs hM => ?_)
              refine g_iconst (v := 3) G dX0_hear_57 rfl ?_
              refine g_icmp_ge (tgt := 65) G dX0_hear_58 rfl (fun c6 => ?_) (fun c6 => ?_)
              · have hf := it_pos c6 hf
                exact J65 _ _ _ hf hM ls (lv_sub hl [0, 1, 3] rfl)
              · have hf := it_neg c6 hf
                refine g_iconst (v := 1) G dX0_hear_61 rfl ?_
                refine g_goto (tgt := 66) G dX0_hear_62 rfl ?_
                exact J66 _ _ _ _ hf hM ls (lv_sub hl [0, 1, 3] rfl)
    exact L29 FU _ _ _ _ _ hf hM ls (lv_sub hl [2, 3, 1, 0] rfl)
  obtain ⟨j25, ej25, hf⟩ := jn_open hf
  have J25 : ∀ (h18 : PH) (H : Heap) (locs : List Loc), j25 h18 = some (r, h') → PI D A cap H0 h18 H locs → ∀ ls : Array Slot, lv_has ls 4 [(0, .ref a0), (1, .int r1)] → Z H locs (cx H) (sx H) (F0 m 25 ls []) := by
    intro h18 H locs hf hM ls hl
    rw [ej25] at hf
    refine g_iconst (v := 0) G dX0_hear_25 rfl ?_
    exact J26 _ _ _ _ hf hM ls (lv_sub hl [0, 1] rfl)
  refine g_if_le (tgt := 25) G dX0_hear_6 rfl (fun c7 => ?_) (fun c7 => ?_)
  · have hf := it_pos c7 hf
    exact J25 _ _ _ hf hM ls (lv_sub hl [1, 0] rfl)
  · have hf := it_neg c7 hf
    refine g_iload_n G dX0_hear_9 rfl (lv_at hl 0 rfl) ?_
    refine g_iconst (v := 2) G dX0_hear_10 rfl ?_
    refine g_irem G dX0_hear_11 (by decide) ?_
    refine g_if_ne (tgt := 25) G dX0_hear_12 rfl (fun c8 => ?_) (fun c8 => ?_)
    · have hf := it_neg c8 hf
      exact J25 _ _ _ hf hM ls (lv_sub hl [1, 0] rfl)
    · have hf := it_pos c8 hf
      refine g_iload_n G dX0_hear_15 rfl (lv_at hl 0 rfl) ?_
      refine g_bipush (v := 32) G dX0_hear_16 rfl ?_
      refine g_icmp_gt (tgt := 25) G dX0_hear_18 rfl (fun c9 => ?_) (fun c9 => ?_)
      · have hf := it_pos c9 hf
        exact J25 _ _ _ hf hM ls (lv_sub hl [1, 0] rfl)
      · have hf := it_neg c9 hf
        refine g_iconst (v := 1) G dX0_hear_21 rfl ?_
        refine g_goto (tgt := 26) G dX0_hear_22 rfl ?_
        exact J26 _ _ _ _ hf hM ls (lv_sub hl [1, 0] rfl)
theorem pcy_X0_isSource : pcY yX0_isSource cX0_isSource 5 (Option.some Jvm.ClassFile.FieldType.boolean) 3 := ⟨q1491, q145, ⟨by decide +kernel, by decide +kernel, by decide +kernel⟩, Nat.le_of_ble_eq_true rfl⟩
noncomputable def fX0_isSource_L112 (a0 : Nat) (a2 : Int32) (s112 : Int32 → PH → Option (Bool × PH)) (x1 : Int32) (h7 : PH) : Option (Bool × PH) :=
  vI (pF h7 a0 0 13) fun v3 =>
  if v3 ≤ x1 then
    some (true, h7)
  else
    vA (pF h7 a0 0 10) fun p11 =>
    vA (pF h7 a0 0 11) fun p12 =>
    ob (pLd h7 p12 0 x1) fun v4 =>
    ckc (pCls h7 p11) 5 <|
    bnd (fX5_stands p11 v4 a2 h7) fun r2 h8 =>
    vA (pF h8 a0 0 12) fun p13 =>
    ob (pLd h8 p13 0 x1) fun v5 =>
    if r2 = v5 then
      s112 (x1 + 1) h8
    else
      some (false, h8)
noncomputable def fX0_isSource_L29 (a0 : Nat) (a2 : Int32) (k68 : PH → Option (Bool × PH)) (s29 : Int32 → PH → Option (Bool × PH)) (x2 : Int32) (h9 : PH) : Option (Bool × PH) :=
  ckc (pCls h9 a0) 0 <|
  bnd (fX0_people a0 h9) fun r3 h10 =>
  if r3 ≤ x2 then
    k68 h10
  else
    vA (pF h10 a0 0 9) fun p14 =>
    ckc (pCls h10 p14) 5 <|
    bnd (fX5_stands p14 x2 a2 h10) fun r4 h11 =>
    jn (fun (h12 : PH) =>
      s29 (x2 + 1) h12) fun j62 =>
    if r4 = (2 : Int32) then
      vA (pF h11 a0 0 10) fun p15 =>
      ckc (pCls h11 p15) 5 <|
      bnv (fX5_hears p15 x2 a2 h11) fun h13 =>
      j62 h13
    else
      j62 h11
noncomputable def fX0_isSource (D : PD) (a0 : Nat) (a1 : Int32) (a2 : Int32) (a3 : Int32) (h : PH) : Option (Bool × PH) :=
  vA (pF h a0 0 9) fun p1 =>
  ckc (pCls h p1) 5 <|
  bnd (fX5_stands p1 a1 a2 h) fun r1 h1 =>
  if r1 = 0 then
    some (false, h1)
  else
    vA (pF h1 a0 0 10) fun p2 =>
    vA (pF h1 a0 0 9) fun p3 =>
    ckc (pCls h1 p2) 5 <|
    bnd (fX5_copy p2 p3 h1) fun p4 h2 =>
    jn (fun (h3 : PH) =>
      vA (pF h3 a0 0 10) fun p5 =>
      vA (pF h3 p5 5 5) fun p6 =>
      ob (pLd h3 p6 0 a1) fun v1 =>
      bnv (pSt h3 p6 0 a1 (v1 &&& (((1 : Int32) <<< (a2 &&& 31)) ^^^ (-1)))) fun h4 =>
      vA (pF h4 a0 0 10) fun p7 =>
      vA (pF h4 p7 5 6) fun p8 =>
      ob (pLd h4 p8 0 a1) fun v2 =>
      bnv (pSt h4 p8 0 a1 (v2 ||| ((1 : Int32) <<< (a2 &&& 31)))) fun h5 =>
      vA (pF h5 a0 0 10) fun p9 =>
      ckc (pCls h5 p9) 5 <|
      bnd (fX5_years D p9 a3 h5) fun p10 h6 =>
      fx (fX0_isSource_L112 a0 a2) (fun _ _ => none) FU 0 h6) fun k68 =>
    fx (fX0_isSource_L29 a0 a2 k68) (fun _ _ => none) FU 0 h2
set_option maxHeartbeats 1000000 in
theorem kX0_isSource {l : Launch} {D : PD} {A : Nat → Prop} {cap : Nat × Nat} {a0 : Nat} {a1 : Int32} {a2 : Int32} {a3 : Int32} {h h' : PH} {r : Bool} (hf : fX0_isSource D a0 a1 a2 a3 h = some (r, h')) : CMet l D A cap yX0_isSource cX0_isSource 5 (Option.some Jvm.ClassFile.FieldType.boolean) 100 [.ref a0, .int a1, .int a2, .int a3] h h' (some (.int (bI r))) := by
  unfold fX0_isSource at hf
  refine p_head (own := RX0) (ini := false) (pn_X0 rfl) rfl (fun q => by cases q) (Nat.le_of_ble_eq_true rfl) (fun m Z cx sx H0 ls X hM hl => ?_)
  have G := X.g
  have hl : lv_has ls 5 [(0, .ref a0), (1, .int a1), (2, .int a2), (3, .int a3)] := hl
  refine g_aload_n G dX0_isSource_0 rfl (lv_at hl 0 rfl) ?_
  obtain ⟨p1, g1, hf⟩ := vA_open hf
  refine p_get (k := 9) X hM pc_0 (by decide) q457 rfl g1 dX0_isSource_1 ?_
  refine g_iload_n G dX0_isSource_4 rfl (lv_at hl 1 rfl) ?_
  refine g_iload_n G dX0_isSource_5 rfl (lv_at hl 2 rfl) ?_
  obtain ⟨b1, hf⟩ := ckc_open hf
  obtain ⟨r1, h1, g2, hf⟩ := bnd_open hf
  refine p_callV_r (ci := 5) (As := [.int a1, .int a2]) (rest := []) X hM hl rfl b1 pcy_X5_stands q1281 q1282 q1283 (kX5_stands g2) rfl (Nat.le_of_ble_eq_true rfl) (Nat.le_of_ble_eq_true rfl) rfl dX0_isSource_6 (fun H locs hM => ?_)
  refine g_if_ne (tgt := 14) G dX0_isSource_9 rfl (fun c1 => ?_) (fun c1 => ?_)
  · have hf := it_neg c1 hf
    refine g_aload_n G dX0_isSource_14 rfl (lv_at hl 0 rfl) ?_
    obtain ⟨p2, g3, hf⟩ := vA_open hf
    refine p_get (k := 10) X hM pc_0 (by decide) q458 rfl g3 dX0_isSource_15 ?_
    refine g_aload_n G dX0_isSource_18 rfl (lv_at hl 0 rfl) ?_
    obtain ⟨p3, g4, hf⟩ := vA_open hf
    refine p_get (k := 9) X hM pc_0 (by decide) q457 rfl g4 dX0_isSource_19 ?_
    obtain ⟨b2, hf⟩ := ckc_open hf
    obtain ⟨p4, h2, g5, hf⟩ := bnd_open hf
    refine p_callV_r (ci := 5) (As := [.ref p3]) (rest := []) X hM hl rfl b2 pcy_X5_copy q1422 q1423 q1424 (kX5_copy g5) rfl (Nat.le_of_ble_eq_true rfl) (Nat.le_of_ble_eq_true rfl) rfl dX0_isSource_22 (fun H locs hM => ?_)
    refine g_pop G dX0_isSource_25 rfl ?_
    refine g_iconst (v := 0) G dX0_isSource_26 rfl ?_
    refine g_istore (lv' := [(4, .int 0), (0, .ref a0), (1, .int a1), (2, .int a2), (3, .int a3)]) G dX0_isSource_27 hl (Nat.le_of_ble_eq_true rfl) rfl (fun ls hl => ?_)
    obtain ⟨k68, ek68, hf⟩ := jn_open hf
    have K68 : ∀ (h3 : PH) (H : Heap) (locs : List Loc), k68 h3 = some (r, h') → PI D A cap H0 h3 H locs → ∀ ls : Array Slot, lv_has ls 5 [(0, .ref a0), (1, .int a1), (2, .int a2), (3, .int a3)] → Z H locs (cx H) (sx H) (F0 m 68 ls []) := by
      intro h3 H locs hf hM ls hl
      rw [ek68] at hf
      refine g_aload_n G dX0_isSource_68 rfl (lv_at hl 0 rfl) ?_
      obtain ⟨p5, g6, hf⟩ := vA_open hf
      refine p_get (k := 10) X hM pc_0 (by decide) q458 rfl g6 dX0_isSource_69 ?_
      obtain ⟨p6, g7, hf⟩ := vA_open hf
      refine p_getN (k := 5) X hM pc_5 (by decide) q407 rfl g7 dX0_isSource_72 ?_
      refine g_iload_n G dX0_isSource_75 rfl (lv_at hl 1 rfl) ?_
      refine g_dup2_11 G dX0_isSource_76 rfl rfl ?_
      obtain ⟨v1, g8, hf⟩ := ob_open hf
      refine p_iald X hM g8 dX0_isSource_77 ?_
      refine g_iconst (v := 1) G dX0_isSource_78 rfl ?_
      refine g_iload_n G dX0_isSource_79 rfl (lv_at hl 2 rfl) ?_
      refine g_ishl G dX0_isSource_80 ?_
      refine g_iconst (v := (-1)) G dX0_isSource_81 rfl ?_
      refine g_ixor G dX0_isSource_82 ?_
      refine g_iand G dX0_isSource_83 ?_
      obtain ⟨h4, g9, hf⟩ := bnv_open hf
      refine p_iast X hM g9 dX0_isSource_84 (fun H locs hM => ?_)
      refine g_aload_n G dX0_isSource_85 rfl (lv_at hl 0 rfl) ?_
      obtain ⟨p7, g10, hf⟩ := vA_open hf
      refine p_get (k := 10) X hM pc_0 (by decide) q458 rfl g10 dX0_isSource_86 ?_
      obtain ⟨p8, g11, hf⟩ := vA_open hf
      refine p_getN (k := 6) X hM pc_5 (by decide) q409 rfl g11 dX0_isSource_89 ?_
      refine g_iload_n G dX0_isSource_92 rfl (lv_at hl 1 rfl) ?_
      refine g_dup2_11 G dX0_isSource_93 rfl rfl ?_
      obtain ⟨v2, g12, hf⟩ := ob_open hf
      refine p_iald X hM g12 dX0_isSource_94 ?_
      refine g_iconst (v := 1) G dX0_isSource_95 rfl ?_
      refine g_iload_n G dX0_isSource_96 rfl (lv_at hl 2 rfl) ?_
      refine g_ishl G dX0_isSource_97 ?_
      refine g_ior G dX0_isSource_98 ?_
      obtain ⟨h5, g13, hf⟩ := bnv_open hf
      refine p_iast X hM g13 dX0_isSource_99 (fun H locs hM => ?_)
      refine g_aload_n G dX0_isSource_100 rfl (lv_at hl 0 rfl) ?_
      obtain ⟨p9, g14, hf⟩ := vA_open hf
      refine p_get (k := 10) X hM pc_0 (by decide) q458 rfl g14 dX0_isSource_101 ?_
      refine g_iload_n G dX0_isSource_104 rfl (lv_at hl 3 rfl) ?_
      obtain ⟨b3, hf⟩ := ckc_open hf
      obtain ⟨p10, h6, g15, hf⟩ := bnd_open hf
      refine p_callV_r (ci := 5) (As := [.int a3]) (rest := []) X hM hl rfl b3 pcy_X5_years q1426 q1427 q1428 (kX5_years g15) rfl (Nat.le_of_ble_eq_true rfl) (Nat.le_of_ble_eq_true rfl) rfl dX0_isSource_105 (fun H locs hM => ?_)
      refine g_pop G dX0_isSource_108 rfl ?_
      refine g_iconst (v := 0) G dX0_isSource_109 rfl ?_
      refine g_istore (lv' := [(4, .int 0), (0, .ref a0), (1, .int a1), (2, .int a2), (3, .int a3)]) G dX0_isSource_110 hl (Nat.le_of_ble_eq_true rfl) rfl (fun ls hl => ?_)
      have L112 : ∀ (n : Nat) (x1 : Int32) (h7 : PH) (H : Heap) (locs : List Loc), fx (fX0_isSource_L112 a0 a2) (fun _ _ => none) n x1 h7 = some (r, h') → PI D A cap H0 h7 H locs → ∀ ls : Array Slot, lv_has ls 5 [(0, .ref a0), (2, .int a2), (4, .int x1)] → Z H locs (cx H) (sx H) (F0 m 112 ls []) := by
        intro n
        induction n with
        | zero => intro x1 h7 H locs hf; exact absurd hf (by intro q; cases q)
        | succ n ih112 =>
          intro x1 h7 H locs hf hM ls hl
          rw [fx_s] at hf
          generalize fx (fX0_isSource_L112 a0 a2) (fun _ _ => none) n = s112 at hf ih112
          unfold fX0_isSource_L112 at hf
          refine g_iload G dX0_isSource_112 (lv_at hl 2 rfl) ?_
          refine g_aload_n G dX0_isSource_114 rfl (lv_at hl 0 rfl) ?_
          obtain ⟨v3, g16, hf⟩ := vI_open hf
          refine p_get (k := 13) X hM pc_0 (by decide) q461 rfl g16 dX0_isSource_115 ?_
          refine g_icmp_ge (tgt := 154) G dX0_isSource_118 rfl (fun c2 => ?_) (fun c2 => ?_)
          · have hf := it_pos c2 hf
            refine g_iconst (v := 1) G dX0_isSource_154 rfl ?_
            exact p_zret X hM hf dX0_isSource_155
          · have hf := it_neg c2 hf
            refine g_aload_n G dX0_isSource_121 rfl (lv_at hl 0 rfl) ?_
            obtain ⟨p11, g17, hf⟩ := vA_open hf
            refine p_get (k := 10) X hM pc_0 (by decide) q458 rfl g17 dX0_isSource_122 ?_
            refine g_aload_n G dX0_isSource_125 rfl (lv_at hl 0 rfl) ?_
            obtain ⟨p12, g18, hf⟩ := vA_open hf
            refine p_get (k := 11) X hM pc_0 (by decide) q459 rfl g18 dX0_isSource_126 ?_
            refine g_iload G dX0_isSource_129 (lv_at hl 2 rfl) ?_
            obtain ⟨v4, g19, hf⟩ := ob_open hf
            refine p_iald X hM g19 dX0_isSource_131 ?_
            refine g_iload_n G dX0_isSource_132 rfl (lv_at hl 1 rfl) ?_
            obtain ⟨b4, hf⟩ := ckc_open hf
            obtain ⟨r2, h8, g20, hf⟩ := bnd_open hf
            refine p_callV_r (ci := 5) (As := [.int v4, .int a2]) (rest := []) X hM hl rfl b4 pcy_X5_stands q1281 q1282 q1283 (kX5_stands g20) rfl (Nat.le_of_ble_eq_true rfl) (Nat.le_of_ble_eq_true rfl) rfl dX0_isSource_133 (fun H locs hM => ?_)
            refine g_aload_n G dX0_isSource_136 rfl (lv_at hl 0 rfl) ?_
            obtain ⟨p13, g21, hf⟩ := vA_open hf
            refine p_get (k := 12) X hM pc_0 (by decide) q460 rfl g21 dX0_isSource_137 ?_
            refine g_iload G dX0_isSource_140 (lv_at hl 2 rfl) ?_
            obtain ⟨v5, g22, hf⟩ := ob_open hf
            refine p_iald X hM g22 dX0_isSource_142 ?_
            refine g_icmp_eq (tgt := 148) G dX0_isSource_143 rfl (fun c3 => ?_) (fun c3 => ?_)
            · have hf := it_pos c3 hf
              refine g_iinc (v := x1 + 1) (lv' := [(4, .int (x1 + 1)), (0, .ref a0), (2, .int a2)]) G dX0_isSource_148 hl (k := 2) rfl rfl (Nat.le_of_ble_eq_true rfl) rfl (fun ls hl => ?_)
              refine g_goto (tgt := 112) G dX0_isSource_151 rfl ?_
              exact ih112 _ _ _ _ hf hM ls (lv_sub hl [1, 2, 0] rfl)
            · have hf := it_neg c3 hf
              refine g_iconst (v := 0) G dX0_isSource_146 rfl ?_
              exact p_zret X hM hf dX0_isSource_147
      exact L112 FU _ _ _ _ hf hM ls (lv_sub hl [1, 3, 0] rfl)
    have L29 : ∀ (n : Nat) (x2 : Int32) (h9 : PH) (H : Heap) (locs : List Loc), fx (fX0_isSource_L29 a0 a2 k68) (fun _ _ => none) n x2 h9 = some (r, h') → PI D A cap H0 h9 H locs → ∀ ls : Array Slot, lv_has ls 5 [(0, .ref a0), (1, .int a1), (2, .int a2), (3, .int a3), (4, .int x2)] → Z H locs (cx H) (sx H) (F0 m 29 ls []) := by
      intro n
      induction n with
      | zero => intro x2 h9 H locs hf; exact absurd hf (by intro q; cases q)
      | succ n ih29 =>
        intro x2 h9 H locs hf hM ls hl
        rw [fx_s] at hf
        generalize fx (fX0_isSource_L29 a0 a2 k68) (fun _ _ => none) n = s29 at hf ih29
        unfold fX0_isSource_L29 at hf
        refine g_iload G dX0_isSource_29 (lv_at hl 4 rfl) ?_
        refine g_aload_n G dX0_isSource_31 rfl (lv_at hl 0 rfl) ?_
        obtain ⟨b5, hf⟩ := ckc_open hf
        obtain ⟨r3, h10, g23, hf⟩ := bnd_open hf
        refine p_callV_r (ci := 0) (As := []) (rest := [.int x2]) X hM hl rfl b5 pcy_X0_people q1227 q1208 qs34 (kX0_people g23) rfl (Nat.le_of_ble_eq_true rfl) (Nat.le_of_ble_eq_true rfl) rfl dX0_isSource_32 (fun H locs hM => ?_)
        refine g_icmp_ge (tgt := 68) G dX0_isSource_35 rfl (fun c4 => ?_) (fun c4 => ?_)
        · have hf := it_pos c4 hf
          exact K68 _ _ _ hf hM ls (lv_sub hl [0, 1, 2, 3] rfl)
        · have hf := it_neg c4 hf
          refine g_aload_n G dX0_isSource_38 rfl (lv_at hl 0 rfl) ?_
          obtain ⟨p14, g24, hf⟩ := vA_open hf
          refine p_get (k := 9) X hM pc_0 (by decide) q457 rfl g24 dX0_isSource_39 ?_
          refine g_iload G dX0_isSource_42 (lv_at hl 4 rfl) ?_
          refine g_iload_n G dX0_isSource_44 rfl (lv_at hl 2 rfl) ?_
          obtain ⟨b6, hf⟩ := ckc_open hf
          obtain ⟨r4, h11, g25, hf⟩ := bnd_open hf
          refine p_callV_r (ci := 5) (As := [.int x2, .int a2]) (rest := []) X hM hl rfl b6 pcy_X5_stands q1281 q1282 q1283 (kX5_stands g25) rfl (Nat.le_of_ble_eq_true rfl) (Nat.le_of_ble_eq_true rfl) rfl dX0_isSource_45 (fun H locs hM => ?_)
          refine g_iconst (v := 2) G dX0_isSource_48 rfl ?_
          obtain ⟨j62, ej62, hf⟩ := jn_open hf
          have J62 : ∀ (h12 : PH) (H : Heap) (locs : List Loc), j62 h12 = some (r, h') → PI D A cap H0 h12 H locs → ∀ ls : Array Slot, lv_has ls 5 [(0, .ref a0), (1, .int a1), (2, .int a2), (3, .int a3), (4, .int x2)] → Z H locs (cx H) (sx H) (F0 m 62 ls []) := by
            intro h12 H locs hf hM ls hl
            rw [ej62] at hf
            refine g_iinc (v := x2 + 1) (lv' := [(4, .int (x2 + 1)), (0, .ref a0), (1, .int a1), (2, .int a2), (3, .int a3)]) G dX0_isSource_62 hl (k := 4) rfl rfl (Nat.le_of_ble_eq_true rfl) rfl (fun ls hl => ?_)
            refine g_goto (tgt := 29) G dX0_isSource_65 rfl ?_
            exact ih29 _ _ _ _ hf hM ls (lv_sub hl [1, 2, 3, 4, 0] rfl)
          refine g_icmp_ne (tgt := 62) G dX0_isSource_49 rfl (fun c5 => ?_) (fun c5 => ?_)
          · have hf := it_neg c5 hf
            exact J62 _ _ _ hf hM ls (lv_sub hl [0, 1, 2, 3, 4] rfl)
          · have hf := it_pos c5 hf
            refine g_aload_n G dX0_isSource_52 rfl (lv_at hl 0 rfl) ?_
            obtain ⟨p15, g26, hf⟩ := vA_open hf
            refine p_get (k := 10) X hM pc_0 (by decide) q458 rfl g26 dX0_isSource_53 ?_
            refine g_iload G dX0_isSource_56 (lv_at hl 4 rfl) ?_
            refine g_iload_n G dX0_isSource_58 rfl (lv_at hl 2 rfl) ?_
            obtain ⟨b7, hf⟩ := ckc_open hf
            obtain ⟨h13, g27, hf⟩ := bnv_open hf
            refine p_callV_v (ci := 5) (As := [.int x2, .int a2]) (rest := []) X hM hl rfl b7 pcy_X5_hears q1468 q1469 q1470 (kX5_hears g27) rfl (Nat.le_of_ble_eq_true rfl) (Nat.le_of_ble_eq_true rfl) rfl dX0_isSource_59 (fun H locs hM => ?_)
            exact J62 _ _ _ hf hM ls (lv_sub hl [0, 1, 2, 3, 4] rfl)
    exact L29 FU _ _ _ _ hf hM ls (lv_sub hl [1, 2, 3, 4, 0] rfl)
  · have hf := it_pos c1 hf
    refine g_iconst (v := 0) G dX0_isSource_12 rfl ?_
    exact p_zret X hM hf dX0_isSource_13
theorem pcy_X0_sources : pcY yX0_sources cX0_sources 5 (Option.some Jvm.ClassFile.FieldType.int) 2 := ⟨q1487, q145, ⟨by decide +kernel, by decide +kernel, by decide +kernel⟩, Nat.le_of_ble_eq_true rfl⟩
noncomputable def fX0_sources_L26 (D : PD) (a0 : Nat) (a1 : Int32) (a2 : Int32) (s26 : Int32 → Int32 → PH → Option (Int32 × PH)) (x1 : Int32) (x2 : Int32) (h3 : PH) : Option (Int32 × PH) :=
  ckc (pCls h3 a0) 0 <|
  bnd (fX0_people a0 h3) fun r3 h4 =>
  if r3 ≤ x2 then
    some (x1, h4)
  else
    ckc (pCls h4 a0) 0 <|
    bnd (fX0_isSource D a0 x2 a1 a2 h4) fun r4 h5 =>
    jn (fun (x3 : Int32) (h6 : PH) =>
      s26 (x1 ||| x3) (x2 + 1) h6) fun j55 =>
    if (bI r4) = 0 then
      j55 0 h5
    else
      j55 ((1 : Int32) <<< (x2 &&& 31)) h5
noncomputable def fX0_sources (D : PD) (a0 : Nat) (a1 : Int32) (a2 : Int32) (h : PH) : Option (Int32 × PH) :=
  ckc (pCls h a0) 0 <|
  bnd (fX0_isFact a0 a1 h) fun r1 h1 =>
  if (bI r1) = 0 then
    some ((-1), h1)
  else
    ckc (pCls h1 a0) 0 <|
    bnd (fX0_isAhead a0 a2 0 20 h1) fun r2 h2 =>
    if (bI r2) = 0 then
      some ((-1), h2)
    else
      fx (fX0_sources_L26 D a0 a1 a2) (fun _ _ _ => none) FU 0 0 h2
set_option maxHeartbeats 1000000 in
theorem kX0_sources {l : Launch} {D : PD} {A : Nat → Prop} {cap : Nat × Nat} {a0 : Nat} {a1 : Int32} {a2 : Int32} {h h' : PH} {r : Int32} (hf : fX0_sources D a0 a1 a2 h = some (r, h')) : CMet l D A cap yX0_sources cX0_sources 5 (Option.some Jvm.ClassFile.FieldType.int) 101 [.ref a0, .int a1, .int a2] h h' (some (.int r)) := by
  unfold fX0_sources at hf
  refine p_head (own := RX0) (ini := false) (pn_X0 rfl) rfl (fun q => by cases q) (Nat.le_of_ble_eq_true rfl) (fun m Z cx sx H0 ls X hM hl => ?_)
  have G := X.g
  have hl : lv_has ls 5 [(0, .ref a0), (1, .int a1), (2, .int a2)] := hl
  refine g_aload_n G dX0_sources_0 rfl (lv_at hl 0 rfl) ?_
  refine g_iload_n G dX0_sources_1 rfl (lv_at hl 1 rfl) ?_
  obtain ⟨b1, hf⟩ := ckc_open hf
  obtain ⟨r1, h1, g1, hf⟩ := bnd_open hf
  refine p_callV_r (ci := 0) (As := [.int a1]) (rest := []) X hM hl rfl b1 pcy_X0_isFact q1269 q1271 qs36 (kX0_isFact g1) rfl (Nat.le_of_ble_eq_true rfl) (Nat.le_of_ble_eq_true rfl) rfl dX0_sources_2 (fun H locs hM => ?_)
  refine g_if_eq (tgt := 19) G dX0_sources_5 rfl (fun c1 => ?_) (fun c1 => ?_)
  · have hf := it_pos c1 hf
    refine g_iconst (v := (-1)) G dX0_sources_19 rfl ?_
    exact p_iret X hM hf dX0_sources_20
  · have hf := it_neg c1 hf
    refine g_aload_n G dX0_sources_8 rfl (lv_at hl 0 rfl) ?_
    refine g_iload_n G dX0_sources_9 rfl (lv_at hl 2 rfl) ?_
    refine g_iconst (v := 0) G dX0_sources_10 rfl ?_
    refine g_bipush (v := 20) G dX0_sources_11 rfl ?_
    obtain ⟨b2, hf⟩ := ckc_open hf
    obtain ⟨r2, h2, g2, hf⟩ := bnd_open hf
    refine p_callV_r (ci := 0) (As := [.int a2, .int 0, .int 20]) (rest := []) X hM hl rfl b2 pcy_X0_isAhead q1418 q1420 qs43 (kX0_isAhead g2) rfl (Nat.le_of_ble_eq_true rfl) (Nat.le_of_ble_eq_true rfl) rfl dX0_sources_13 (fun H locs hM => ?_)
    refine g_if_ne (tgt := 21) G dX0_sources_16 rfl (fun c2 => ?_) (fun c2 => ?_)
    · have hf := it_neg c2 hf
      refine g_iconst (v := 0) G dX0_sources_21 rfl ?_
      refine g_istore_n (i := 3) (lv' := [(3, .int 0), (0, .ref a0), (1, .int a1), (2, .int a2)]) G dX0_sources_22 rfl hl (Nat.le_of_ble_eq_true rfl) rfl (fun ls hl => ?_)
      refine g_iconst (v := 0) G dX0_sources_23 rfl ?_
      refine g_istore (lv' := [(4, .int 0), (3, .int 0), (0, .ref a0), (1, .int a1), (2, .int a2)]) G dX0_sources_24 hl (Nat.le_of_ble_eq_true rfl) rfl (fun ls hl => ?_)
      have L26 : ∀ (n : Nat) (x1 : Int32) (x2 : Int32) (h3 : PH) (H : Heap) (locs : List Loc), fx (fX0_sources_L26 D a0 a1 a2) (fun _ _ _ => none) n x1 x2 h3 = some (r, h') → PI D A cap H0 h3 H locs → ∀ ls : Array Slot, lv_has ls 5 [(0, .ref a0), (1, .int a1), (2, .int a2), (3, .int x1), (4, .int x2)] → Z H locs (cx H) (sx H) (F0 m 26 ls []) := by
        intro n
        induction n with
        | zero => intro x1 x2 h3 H locs hf; exact absurd hf (by intro q; cases q)
        | succ n ih26 =>
          intro x1 x2 h3 H locs hf hM ls hl
          rw [fx_s] at hf
          generalize fx (fX0_sources_L26 D a0 a1 a2) (fun _ _ _ => none) n = s26 at hf ih26
          unfold fX0_sources_L26 at hf
          refine g_iload G dX0_sources_26 (lv_at hl 4 rfl) ?_
          refine g_aload_n G dX0_sources_28 rfl (lv_at hl 0 rfl) ?_
          obtain ⟨b3, hf⟩ := ckc_open hf
          obtain ⟨r3, h4, g3, hf⟩ := bnd_open hf
          refine p_callV_r (ci := 0) (As := []) (rest := [.int x2]) X hM hl rfl b3 pcy_X0_people q1227 q1208 qs34 (kX0_people g3) rfl (Nat.le_of_ble_eq_true rfl) (Nat.le_of_ble_eq_true rfl) rfl dX0_sources_29 (fun H locs hM => ?_)
          refine g_icmp_ge (tgt := 63) G dX0_sources_32 rfl (fun c3 => ?_) (fun c3 => ?_)
          · have hf := it_pos c3 hf
            refine g_iload_n G dX0_sources_63 rfl (lv_at hl 3 rfl) ?_
            exact p_iret X hM hf dX0_sources_64
          · have hf := it_neg c3 hf
            refine g_iload_n G dX0_sources_35 rfl (lv_at hl 3 rfl) ?_
            refine g_aload_n G dX0_sources_36 rfl (lv_at hl 0 rfl) ?_
            refine g_iload G dX0_sources_37 (lv_at hl 4 rfl) ?_
            refine g_iload_n G dX0_sources_39 rfl (lv_at hl 1 rfl) ?_
            refine g_iload_n G dX0_sources_40 rfl (lv_at hl 2 rfl) ?_
            obtain ⟨b4, hf⟩ := ckc_open hf
            obtain ⟨r4, h5, g4, hf⟩ := bnd_open hf
            refine p_callV_r (ci := 0) (As := [.int x2, .int a1, .int a2]) (rest := [.int x1]) X hM hl rfl b4 pcy_X0_isSource q1488 q1490 qs48 (kX0_isSource g4) rfl (Nat.le_of_ble_eq_true rfl) (Nat.le_of_ble_eq_true rfl) rfl dX0_sources_41 (fun H locs hM => ?_)
            obtain ⟨j55, ej55, hf⟩ := jn_open hf
            have J55 : ∀ (x3 : Int32) (h6 : PH) (H : Heap) (locs : List Loc), j55 x3 h6 = some (r, h') → PI D A cap H0 h6 H locs → ∀ ls : Array Slot, lv_has ls 5 [(0, .ref a0), (1, .int a1), (2, .int a2), (4, .int x2)] → Z H locs (cx H) (sx H) (F0 m 55 ls [.int x3, .int x1]) := by
              intro x3 h6 H locs hf hM ls hl
              rw [ej55] at hf
              refine g_ior G dX0_sources_55 ?_
              refine g_istore_n (i := 3) (lv' := [(3, .int (x1 ||| x3)), (0, .ref a0), (1, .int a1), (2, .int a2), (4, .int x2)]) G dX0_sources_56 rfl hl (Nat.le_of_ble_eq_true rfl) rfl (fun ls hl => ?_)
              refine g_iinc (v := x2 + 1) (lv' := [(4, .int (x2 + 1)), (3, .int (x1 ||| x3)), (0, .ref a0), (1, .int a1), (2, .int a2)]) G dX0_sources_57 hl (k := 4) rfl rfl (Nat.le_of_ble_eq_true rfl) rfl (fun ls hl => ?_)
              refine g_goto (tgt := 26) G dX0_sources_60 rfl ?_
              exact ih26 _ _ _ _ _ hf hM ls (lv_sub hl [2, 3, 4, 1, 0] rfl)
            refine g_if_eq (tgt := 54) G dX0_sources_44 rfl (fun c4 => ?_) (fun c4 => ?_)
            · have hf := it_pos c4 hf
              refine g_iconst (v := 0) G dX0_sources_54 rfl ?_
              exact J55 _ _ _ _ hf hM ls (lv_sub hl [0, 1, 2, 4] rfl)
            · have hf := it_neg c4 hf
              refine g_iconst (v := 1) G dX0_sources_47 rfl ?_
              refine g_iload G dX0_sources_48 (lv_at hl 4 rfl) ?_
              refine g_ishl G dX0_sources_50 ?_
              refine g_goto (tgt := 55) G dX0_sources_51 rfl ?_
              exact J55 _ _ _ _ hf hM ls (lv_sub hl [0, 1, 2, 4] rfl)
      exact L26 FU _ _ _ _ _ hf hM ls (lv_sub hl [2, 3, 4, 1, 0] rfl)
    · have hf := it_pos c2 hf
      refine g_iconst (v := (-1)) G dX0_sources_19 rfl ?_
      exact p_iret X hM hf dX0_sources_20
theorem pcy_X0_probe : pcY yX0_probe cX0_probe 9 (Option.some Jvm.ClassFile.FieldType.int) 3 := ⟨q1495, q145, ⟨by decide +kernel, by decide +kernel, by decide +kernel⟩, Nat.le_of_ble_eq_true rfl⟩
noncomputable def fX0_probe_L174 (a0 : Nat) (x1 : Int32) (k247 : Int32 → Int32 → PH → Option (Int32 × PH)) (s174 : Int32 → Int32 → Int32 → PH → Option (Int32 × PH)) (x4 : Int32) (x5 : Int32) (x6 : Int32) (h8 : PH) : Option (Int32 × PH) :=
  ckc (pCls h8 a0) 0 <|
  bnd (fX0_people a0 h8) fun r4 h9 =>
  if r4 ≤ x6 then
    k247 x4 x5 h9
  else
    if x1 ≤ 0 then
      k247 x4 x5 h9
    else
      vA (pF h9 a0 0 14) fun p2 =>
      ob (pLdQ h9 p2 6 x6) fun q1 =>
      qS q1 fun n1 =>
      ob (pLd h9 n1 0 0) fun v1 =>
      vA (pF h9 a0 0 14) fun p3 =>
      ob (pLdQ h9 p3 6 x6) fun q2 =>
      qS q2 fun n2 =>
      ob (pLd h9 n2 0 1) fun v2 =>
      vA (pF h9 a0 0 14) fun p4 =>
      ob (pLdQ h9 p4 6 x6) fun q3 =>
      qS q3 fun n3 =>
      ob (pLd h9 n3 0 2) fun v3 =>
      bnd (fJ12_max v2 v3 h9) fun r5 h10 =>
      bnd (fJ12_max v1 r5 h10) fun r6 h11 =>
      jn (fun (x7 : Int32) (x8 : Int32) (h12 : PH) =>
        s174 x7 x8 (x6 + 1) h12) fun j241 =>
      if r6 < x5 then
        j241 x6 r6 h11
      else
        j241 x4 x5 h11
noncomputable def fX0_probe_L120 (a0 : Nat) (a1 : Int32) (x9 : Int32) (j157 : Int32 → PH → Option (Int32 × PH)) (s120 : Int32 → PH → Option (Int32 × PH)) (x12 : Int32) (h17 : PH) : Option (Int32 × PH) :=
  ckc (pCls h17 a0) 0 <|
  bnd (fX0_people a0 h17) fun r9 h18 =>
  if r9 ≤ x12 then
    j157 (x9 + 1) h18
  else
    vA (pF h18 a0 0 14) fun p5 =>
    ob (pLdQ h18 p5 6 x12) fun q4 =>
    vA (pF h18 a0 0 10) fun p6 =>
    ckc (pCls h18 p6) 5 <|
    bnd (fX5_stands p6 x12 a1 h18) fun r10 h19 =>
    qS q4 fun n4 =>
    ob (pLd h19 n4 0 r10) fun v4 =>
    bnv (pSt h19 n4 0 r10 (v4 + 1)) fun h20 =>
    s120 (x12 + 1) h20
noncomputable def fX0_probe_L91 (D : PD) (a0 : Nat) (a1 : Int32) (a2 : Int32) (k163 : Int32 → PH → Option (Int32 × PH)) (s91 : Int32 → Int32 → PH → Option (Int32 × PH)) (x9 : Int32) (x10 : Int32) (h13 : PH) : Option (Int32 × PH) :=
  ckc (pCls h13 a0) 0 <|
  bnd (fX0_people a0 h13) fun r7 h14 =>
  if r7 ≤ x10 then
    k163 x9 h14
  else
    ckc (pCls h14 a0) 0 <|
    bnd (fX0_isSource D a0 x10 a1 a2 h14) fun r8 h15 =>
    jn (fun (x11 : Int32) (h16 : PH) =>
      s91 x11 (x10 + 1) h16) fun j157 =>
    if (bI r8) = 0 then
      j157 x9 h15
    else
      fx (fX0_probe_L120 a0 a1 x9 j157) (fun _ _ => none) FU 0 h15
noncomputable def fX0_probe_L61 (q5 : Option Nat) (k79 : PH → Option (Int32 × PH)) (s61 : Int32 → PH → Option (Int32 × PH)) (x14 : Int32) (h23 : PH) : Option (Int32 × PH) :=
  if (3 : Int32) ≤ x14 then
    k79 h23
  else
    qS q5 fun n5 =>
    bnv (pSt h23 n5 0 x14 0) fun h24 =>
    s61 (x14 + 1) h24
noncomputable def fX0_probe_L44 (p1 : Nat) (w1 : vp_A) (k85 : PH → Option (Int32 × PH)) (s44 : Int32 → PH → Option (Int32 × PH)) (x13 : Int32) (h21 : PH) : Option (Int32 × PH) :=
  if (nI w1.1) ≤ x13 then
    k85 h21
  else
    ob (pLdQ h21 p1 6 x13) fun q5 =>
    jn (fun (h22 : PH) =>
      s44 (x13 + 1) h22) fun k79 =>
    fx (fX0_probe_L61 q5 k79) (fun _ _ => none) FU 0 h21
noncomputable def fX0_probe (D : PD) (a0 : Nat) (a1 : Int32) (a2 : Int32) (a3 : Int32) (h : PH) : Option (Int32 × PH) :=
  ckc (pCls h a0) 0 <|
  bnd (fX0_isFact a0 a1 h) fun r1 h1 =>
  if (bI r1) = 0 then
    some ((-1), h1)
  else
    ckc (pCls h1 a0) 0 <|
    bnd (fX0_isAhead a0 a2 0 20 h1) fun r2 h2 =>
    if (bI r2) = 0 then
      some ((-1), h2)
    else
      bnd (fX0_is a3 0 1 h2) fun r3 h3 =>
      if (bI r3) = 0 then
        some ((-1), h3)
      else
        vA (pF h3 a0 0 14) fun p1 =>
        ob (pArr h3 p1 6) fun w1 =>
        jn (fun (h4 : PH) =>
          jn (fun (x1 : Int32) (h5 : PH) =>
            jn (fun (x2 : Int32) (x3 : Int32) (h6 : PH) =>
              jn (fun (h7 : PH) =>
                some (x2, h7)) fun j257 =>
              if x2 = ((-1) : Int32) then
                j257 h6
              else
                if a3 = 0 then
                  j257 h6
                else
                  some (x3, h6)) fun k247 =>
            fx (fX0_probe_L174 a0 x1 k247) (fun _ _ _ _ => none) FU (-1) 100000000 0 h5) fun k163 =>
          fx (fX0_probe_L91 D a0 a1 a2 k163) (fun _ _ _ => none) FU 0 0 h4) fun k85 =>
        fx (fX0_probe_L44 p1 w1 k85) (fun _ _ => none) FU 0 h3
set_option maxHeartbeats 1000000 in
theorem kX0_probe {l : Launch} {D : PD} {A : Nat → Prop} {cap : Nat × Nat} {a0 : Nat} {a1 : Int32} {a2 : Int32} {a3 : Int32} {h h' : PH} {r : Int32} (hf : fX0_probe D a0 a1 a2 a3 h = some (r, h')) : CMet l D A cap yX0_probe cX0_probe 9 (Option.some Jvm.ClassFile.FieldType.int) 101 [.ref a0, .int a1, .int a2, .int a3] h h' (some (.int r)) := by
  unfold fX0_probe at hf
  refine p_head (own := RX0) (ini := false) (pn_X0 rfl) rfl (fun q => by cases q) (Nat.le_of_ble_eq_true rfl) (fun m Z cx sx H0 ls X hM hl => ?_)
  have G := X.g
  have hl : lv_has ls 9 [(0, .ref a0), (1, .int a1), (2, .int a2), (3, .int a3)] := hl
  refine g_aload_n G dX0_probe_0 rfl (lv_at hl 0 rfl) ?_
  refine g_iload_n G dX0_probe_1 rfl (lv_at hl 1 rfl) ?_
  obtain ⟨b1, hf⟩ := ckc_open hf
  obtain ⟨r1, h1, g1, hf⟩ := bnd_open hf
  refine p_callV_r (ci := 0) (As := [.int a1]) (rest := []) X hM hl rfl b1 pcy_X0_isFact q1269 q1271 qs36 (kX0_isFact g1) rfl (Nat.le_of_ble_eq_true rfl) (Nat.le_of_ble_eq_true rfl) rfl dX0_probe_2 (fun H locs hM => ?_)
  refine g_if_eq (tgt := 28) G dX0_probe_5 rfl (fun c1 => ?_) (fun c1 => ?_)
  · have hf := it_pos c1 hf
    refine g_iconst (v := (-1)) G dX0_probe_28 rfl ?_
    exact p_iret X hM hf dX0_probe_29
  · have hf := it_neg c1 hf
    refine g_aload_n G dX0_probe_8 rfl (lv_at hl 0 rfl) ?_
    refine g_iload_n G dX0_probe_9 rfl (lv_at hl 2 rfl) ?_
    refine g_iconst (v := 0) G dX0_probe_10 rfl ?_
    refine g_bipush (v := 20) G dX0_probe_11 rfl ?_
    obtain ⟨b2, hf⟩ := ckc_open hf
    obtain ⟨r2, h2, g2, hf⟩ := bnd_open hf
    refine p_callV_r (ci := 0) (As := [.int a2, .int 0, .int 20]) (rest := []) X hM hl rfl b2 pcy_X0_isAhead q1418 q1420 qs43 (kX0_isAhead g2) rfl (Nat.le_of_ble_eq_true rfl) (Nat.le_of_ble_eq_true rfl) rfl dX0_probe_13 (fun H locs hM => ?_)
    refine g_if_eq (tgt := 28) G dX0_probe_16 rfl (fun c2 => ?_) (fun c2 => ?_)
    · have hf := it_pos c2 hf
      refine g_iconst (v := (-1)) G dX0_probe_28 rfl ?_
      exact p_iret X hM hf dX0_probe_29
    · have hf := it_neg c2 hf
      refine g_iload_n G dX0_probe_19 rfl (lv_at hl 3 rfl) ?_
      refine g_iconst (v := 0) G dX0_probe_20 rfl ?_
      refine g_iconst (v := 1) G dX0_probe_21 rfl ?_
      obtain ⟨r3, h3, g3, hf⟩ := bnd_open hf
      refine p_callS_r (As := [.int a3, .int 0, .int 1]) (rest := []) X hM hl pcy_X0_is q1243 q794 (kX0_is g3) rfl (Nat.le_of_ble_eq_true rfl) (Nat.le_of_ble_eq_true rfl) rfl dX0_probe_22 (fun H locs hM => ?_)
      refine g_if_ne (tgt := 30) G dX0_probe_25 rfl (fun c3 => ?_) (fun c3 => ?_)
      · have hf := it_neg c3 hf
        refine g_aload_n G dX0_probe_30 rfl (lv_at hl 0 rfl) ?_
        obtain ⟨p1, g4, hf⟩ := vA_open hf
        refine p_get (k := 14) X hM pc_0 (by decide) q462 rfl g4 dX0_probe_31 ?_
        refine g_astore (lv' := [(4, .ref p1), (0, .ref a0), (1, .int a1), (2, .int a2), (3, .int a3)]) G dX0_probe_34 hl (Nat.le_of_ble_eq_true rfl) rfl (fun ls hl => ?_)
        refine g_aload G dX0_probe_36 (lv_at hl 0 rfl) ?_
        obtain ⟨w1, g5, hf⟩ := ob_open hf
        refine p_alen X hM (kd := 6) (by decide) g5 rfl dX0_probe_38 ?_
        refine g_istore (lv' := [(5, .int (nI w1.1)), (4, .ref p1), (0, .ref a0), (1, .int a1), (2, .int a2), (3, .int a3)]) G dX0_probe_39 hl (Nat.le_of_ble_eq_true rfl) rfl (fun ls hl => ?_)
        refine g_iconst (v := 0) G dX0_probe_41 rfl ?_
        refine g_istore (lv' := [(6, .int 0), (5, .int (nI w1.1)), (4, .ref p1), (0, .ref a0), (1, .int a1), (2, .int a2), (3, .int a3)]) G dX0_probe_42 hl (Nat.le_of_ble_eq_true rfl) rfl (fun ls hl => ?_)
        obtain ⟨k85, ek85, hf⟩ := jn_open hf
        have K85 : ∀ (h4 : PH) (H : Heap) (locs : List Loc), k85 h4 = some (r, h') → PI D A cap H0 h4 H locs → ∀ ls : Array Slot, lv_has ls 9 [(0, .ref a0), (1, .int a1), (2, .int a2), (3, .int a3)] → Z H locs (cx H) (sx H) (F0 m 85 ls []) := by
          intro h4 H locs hf hM ls hl
          rw [ek85] at hf
          refine g_iconst (v := 0) G dX0_probe_85 rfl ?_
          refine g_istore (lv' := [(4, .int 0), (0, .ref a0), (1, .int a1), (2, .int a2), (3, .int a3)]) G dX0_probe_86 hl (Nat.le_of_ble_eq_true rfl) rfl (fun ls hl => ?_)
          refine g_iconst (v := 0) G dX0_probe_88 rfl ?_
          refine g_istore (lv' := [(5, .int 0), (4, .int 0), (0, .ref a0), (1, .int a1), (2, .int a2), (3, .int a3)]) G dX0_probe_89 hl (Nat.le_of_ble_eq_true rfl) rfl (fun ls hl => ?_)
          obtain ⟨k163, ek163, hf⟩ := jn_open hf
          have K163 : ∀ (x1 : Int32) (h5 : PH) (H : Heap) (locs : List Loc), k163 x1 h5 = some (r, h') → PI D A cap H0 h5 H locs → ∀ ls : Array Slot, lv_has ls 9 [(0, .ref a0), (3, .int a3), (4, .int x1)] → Z H locs (cx H) (sx H) (F0 m 163 ls []) := by
            intro x1 h5 H locs hf hM ls hl
            rw [ek163] at hf
            refine g_iconst (v := (-1)) G dX0_probe_163 rfl ?_
            refine g_istore (lv' := [(5, .int (-1)), (0, .ref a0), (3, .int a3), (4, .int x1)]) G dX0_probe_164 hl (Nat.le_of_ble_eq_true rfl) rfl (fun ls hl => ?_)
            refine g_ldcw G q1459 dX0_probe_166 ?_
            refine g_istore (lv' := [(6, .int 100000000), (5, .int (-1)), (0, .ref a0), (3, .int a3), (4, .int x1)]) G dX0_probe_169 hl (Nat.le_of_ble_eq_true rfl) rfl (fun ls hl => ?_)
            refine g_iconst (v := 0) G dX0_probe_171 rfl ?_
            refine g_istore (lv' := [(7, .int 0), (6, .int 100000000), (5, .int (-1)), (0, .ref a0), (3, .int a3), (4, .int x1)]) G dX0_probe_172 hl (Nat.le_of_ble_eq_true rfl) rfl (fun ls hl => ?_)
            obtain ⟨k247, ek247, hf⟩ := jn_open hf
            have K247 : ∀ (x2 : Int32) (x3 : Int32) (h6 : PH) (H : Heap) (locs : List Loc), k247 x2 x3 h6 = some (r, h') → PI D A cap H0 h6 H locs → ∀ ls : Array Slot, lv_has ls 9 [(3, .int a3), (5, .int x2), (6, .int x3)] → Z H locs (cx H) (sx H) (F0 m 247 ls []) := by
              intro x2 x3 h6 H locs hf hM ls hl
              rw [ek247] at hf
              refine g_iload G dX0_probe_247 (lv_at hl 1 rfl) ?_
              refine g_iconst (v := (-1)) G dX0_probe_249 rfl ?_
              obtain ⟨j257, ej257, hf⟩ := jn_open hf
              have J257 : ∀ (h7 : PH) (H : Heap) (locs : List Loc), j257 h7 = some (r, h') → PI D A cap H0 h7 H locs → ∀ ls : Array Slot, lv_has ls 9 [(5, .int x2)] → Z H locs (cx H) (sx H) (F0 m 257 ls []) := by
                intro h7 H locs hf hM ls hl
                rw [ej257] at hf
                refine g_iload G dX0_probe_257 (lv_at hl 0 rfl) ?_
                refine g_goto (tgt := 264) G dX0_probe_259 rfl ?_
                exact p_iret X hM hf dX0_probe_264
              refine g_icmp_eq (tgt := 257) G dX0_probe_250 rfl (fun c4 => ?_) (fun c4 => ?_)
              · have hf := it_pos c4 hf
                exact J257 _ _ _ hf hM ls (lv_sub hl [1] rfl)
              · have hf := it_neg c4 hf
                refine g_iload_n G dX0_probe_253 rfl (lv_at hl 0 rfl) ?_
                refine g_if_ne (tgt := 262) G dX0_probe_254 rfl (fun c5 => ?_) (fun c5 => ?_)
                · have hf := it_neg c5 hf
                  refine g_iload G dX0_probe_262 (lv_at hl 2 rfl) ?_
                  exact p_iret X hM hf dX0_probe_264
                · have hf := it_pos c5 hf
                  exact J257 _ _ _ hf hM ls (lv_sub hl [1] rfl)
            have L174 : ∀ (n : Nat) (x4 : Int32) (x5 : Int32) (x6 : Int32) (h8 : PH) (H : Heap) (locs : List Loc), fx (fX0_probe_L174 a0 x1 k247) (fun _ _ _ _ => none) n x4 x5 x6 h8 = some (r, h') → PI D A cap H0 h8 H locs → ∀ ls : Array Slot, lv_has ls 9 [(0, .ref a0), (3, .int a3), (4, .int x1), (5, .int x4), (6, .int x5), (7, .int x6)] → Z H locs (cx H) (sx H) (F0 m 174 ls []) := by
              intro n
              induction n with
              | zero => intro x4 x5 x6 h8 H locs hf; exact absurd hf (by intro q; cases q)
              | succ n ih174 =>
                intro x4 x5 x6 h8 H locs hf hM ls hl
                rw [fx_s] at hf
                generalize fx (fX0_probe_L174 a0 x1 k247) (fun _ _ _ _ => none) n = s174 at hf ih174
                unfold fX0_probe_L174 at hf
                refine g_iload G dX0_probe_174 (lv_at hl 5 rfl) ?_
                refine g_aload_n G dX0_probe_176 rfl (lv_at hl 0 rfl) ?_
                obtain ⟨b3, hf⟩ := ckc_open hf
                obtain ⟨r4, h9, g6, hf⟩ := bnd_open hf
                refine p_callV_r (ci := 0) (As := []) (rest := [.int x6]) X hM hl rfl b3 pcy_X0_people q1227 q1208 qs34 (kX0_people g6) rfl (Nat.le_of_ble_eq_true rfl) (Nat.le_of_ble_eq_true rfl) rfl dX0_probe_177 (fun H locs hM => ?_)
                refine g_icmp_ge (tgt := 247) G dX0_probe_180 rfl (fun c6 => ?_) (fun c6 => ?_)
                · have hf := it_pos c6 hf
                  exact K247 _ _ _ _ _ hf hM ls (lv_sub hl [1, 3, 4] rfl)
                · have hf := it_neg c6 hf
                  refine g_iload G dX0_probe_183 (lv_at hl 2 rfl) ?_
                  refine g_if_le (tgt := 247) G dX0_probe_185 rfl (fun c7 => ?_) (fun c7 => ?_)
                  · have hf := it_pos c7 hf
                    exact K247 _ _ _ _ _ hf hM ls (lv_sub hl [1, 3, 4] rfl)
                  · have hf := it_neg c7 hf
                    refine g_aload_n G dX0_probe_188 rfl (lv_at hl 0 rfl) ?_
                    obtain ⟨p2, g7, hf⟩ := vA_open hf
                    refine p_get (k := 14) X hM pc_0 (by decide) q462 rfl g7 dX0_probe_189 ?_
                    refine g_iload G dX0_probe_192 (lv_at hl 5 rfl) ?_
                    obtain ⟨q1, g8, hf⟩ := ob_open hf
                    refine p_aald X hM (kd := 6) (by decide) rfl g8 dX0_probe_194 ?_
                    refine g_iconst (v := 0) G dX0_probe_195 rfl ?_
                    obtain ⟨n1, e1, hfq⟩ := qS_open hf
                    clear hf; subst e1; have hf := hfq; clear hfq
                    obtain ⟨v1, g9, hf⟩ := ob_open hf
                    refine p_iald X hM g9 dX0_probe_196 ?_
                    refine g_aload_n G dX0_probe_197 rfl (lv_at hl 0 rfl) ?_
                    obtain ⟨p3, g10, hf⟩ := vA_open hf
                    refine p_get (k := 14) X hM pc_0 (by decide) q462 rfl g10 dX0_probe_198 ?_
                    refine g_iload G dX0_probe_201 (lv_at hl 5 rfl) ?_
                    obtain ⟨q2, g11, hf⟩ := ob_open hf
                    refine p_aald X hM (kd := 6) (by decide) rfl g11 dX0_probe_203 ?_
                    refine g_iconst (v := 1) G dX0_probe_204 rfl ?_
                    obtain ⟨n2, e2, hfq⟩ := qS_open hf
                    clear hf; subst e2; have hf := hfq; clear hfq
                    obtain ⟨v2, g12, hf⟩ := ob_open hf
                    refine p_iald X hM g12 dX0_probe_205 ?_
                    refine g_aload_n G dX0_probe_206 rfl (lv_at hl 0 rfl) ?_
                    obtain ⟨p4, g13, hf⟩ := vA_open hf
                    refine p_get (k := 14) X hM pc_0 (by decide) q462 rfl g13 dX0_probe_207 ?_
                    refine g_iload G dX0_probe_210 (lv_at hl 5 rfl) ?_
                    obtain ⟨q3, g14, hf⟩ := ob_open hf
                    refine p_aald X hM (kd := 6) (by decide) rfl g14 dX0_probe_212 ?_
                    refine g_iconst (v := 2) G dX0_probe_213 rfl ?_
                    obtain ⟨n3, e3, hfq⟩ := qS_open hf
                    clear hf; subst e3; have hf := hfq; clear hfq
                    obtain ⟨v3, g15, hf⟩ := ob_open hf
                    refine p_iald X hM g15 dX0_probe_214 ?_
                    obtain ⟨r5, h10, g16, hf⟩ := bnd_open hf
                    refine p_callS_r (As := [.int v2, .int v3]) (rest := [.int v1]) X hM hl pcy_J12_max q1496 q835 (kJ12_max g16) rfl (Nat.le_of_ble_eq_true rfl) (Nat.le_of_ble_eq_true rfl) rfl dX0_probe_215 (fun H locs hM => ?_)
                    obtain ⟨r6, h11, g17, hf⟩ := bnd_open hf
                    refine p_callS_r (As := [.int v1, .int r5]) (rest := []) X hM hl pcy_J12_max q1496 q835 (kJ12_max g17) rfl (Nat.le_of_ble_eq_true rfl) (Nat.le_of_ble_eq_true rfl) rfl dX0_probe_218 (fun H locs hM => ?_)
                    refine g_istore (lv' := [(8, .int r6), (0, .ref a0), (3, .int a3), (4, .int x1), (5, .int x4), (6, .int x5), (7, .int x6)]) G dX0_probe_221 hl (Nat.le_of_ble_eq_true rfl) rfl (fun ls hl => ?_)
                    refine g_iload G dX0_probe_223 (lv_at hl 0 rfl) ?_
                    refine g_iload G dX0_probe_225 (lv_at hl 5 rfl) ?_
                    obtain ⟨j241, ej241, hf⟩ := jn_open hf
                    have J241 : ∀ (x7 : Int32) (x8 : Int32) (h12 : PH) (H : Heap) (locs : List Loc), j241 x7 x8 h12 = some (r, h') → PI D A cap H0 h12 H locs → ∀ ls : Array Slot, lv_has ls 9 [(0, .ref a0), (3, .int a3), (4, .int x1), (5, .int x7), (6, .int x8), (7, .int x6)] → Z H locs (cx H) (sx H) (F0 m 241 ls []) := by
                      intro x7 x8 h12 H locs hf hM ls hl
                      rw [ej241] at hf
                      refine g_iinc (v := x6 + 1) (lv' := [(7, .int (x6 + 1)), (0, .ref a0), (3, .int a3), (4, .int x1), (5, .int x7), (6, .int x8)]) G dX0_probe_241 hl (k := 5) rfl rfl (Nat.le_of_ble_eq_true rfl) rfl (fun ls hl => ?_)
                      refine g_goto (tgt := 174) G dX0_probe_244 rfl ?_
                      exact ih174 _ _ _ _ _ _ hf hM ls (lv_sub hl [1, 2, 3, 4, 5, 0] rfl)
                    refine g_icmp_lt (tgt := 233) G dX0_probe_227 rfl (fun c8 => ?_) (fun c8 => ?_)
                    · have hf := it_pos c8 hf
                      refine g_iload G dX0_probe_233 (lv_at hl 0 rfl) ?_
                      refine g_istore (lv' := [(6, .int r6), (8, .int r6), (0, .ref a0), (3, .int a3), (4, .int x1), (5, .int x4), (7, .int x6)]) G dX0_probe_235 hl (Nat.le_of_ble_eq_true rfl) rfl (fun ls hl => ?_)
                      refine g_iload G dX0_probe_237 (lv_at hl 6 rfl) ?_
                      refine g_istore (lv' := [(5, .int x6), (6, .int r6), (8, .int r6), (0, .ref a0), (3, .int a3), (4, .int x1), (7, .int x6)]) G dX0_probe_239 hl (Nat.le_of_ble_eq_true rfl) rfl (fun ls hl => ?_)
                      exact J241 _ _ _ _ _ hf hM ls (lv_sub hl [3, 4, 5, 0, 1, 6] rfl)
                    · have hf := it_neg c8 hf
                      refine g_goto (tgt := 241) G dX0_probe_230 rfl ?_
                      exact J241 _ _ _ _ _ hf hM ls (lv_sub hl [1, 2, 3, 4, 5, 6] rfl)
            exact L174 FU _ _ _ _ _ _ hf hM ls (lv_sub hl [3, 4, 5, 2, 1, 0] rfl)
          have L91 : ∀ (n : Nat) (x9 : Int32) (x10 : Int32) (h13 : PH) (H : Heap) (locs : List Loc), fx (fX0_probe_L91 D a0 a1 a2 k163) (fun _ _ _ => none) n x9 x10 h13 = some (r, h') → PI D A cap H0 h13 H locs → ∀ ls : Array Slot, lv_has ls 9 [(0, .ref a0), (1, .int a1), (2, .int a2), (3, .int a3), (4, .int x9), (5, .int x10)] → Z H locs (cx H) (sx H) (F0 m 91 ls []) := by
            intro n
            induction n with
            | zero => intro x9 x10 h13 H locs hf; exact absurd hf (by intro q; cases q)
            | succ n ih91 =>
              intro x9 x10 h13 H locs hf hM ls hl
              rw [fx_s] at hf
              generalize fx (fX0_probe_L91 D a0 a1 a2 k163) (fun _ _ _ => none) n = s91 at hf ih91
              unfold fX0_probe_L91 at hf
              refine g_iload G dX0_probe_91 (lv_at hl 5 rfl) ?_
              refine g_aload_n G dX0_probe_93 rfl (lv_at hl 0 rfl) ?_
              obtain ⟨b4, hf⟩ := ckc_open hf
              obtain ⟨r7, h14, g18, hf⟩ := bnd_open hf
              refine p_callV_r (ci := 0) (As := []) (rest := [.int x10]) X hM hl rfl b4 pcy_X0_people q1227 q1208 qs34 (kX0_people g18) rfl (Nat.le_of_ble_eq_true rfl) (Nat.le_of_ble_eq_true rfl) rfl dX0_probe_94 (fun H locs hM => ?_)
              refine g_icmp_ge (tgt := 163) G dX0_probe_97 rfl (fun c9 => ?_) (fun c9 => ?_)
              · have hf := it_pos c9 hf
                exact K163 _ _ _ _ hf hM ls (lv_sub hl [0, 3, 4] rfl)
              · have hf := it_neg c9 hf
                refine g_aload_n G dX0_probe_100 rfl (lv_at hl 0 rfl) ?_
                refine g_iload G dX0_probe_101 (lv_at hl 5 rfl) ?_
                refine g_iload_n G dX0_probe_103 rfl (lv_at hl 1 rfl) ?_
                refine g_iload_n G dX0_probe_104 rfl (lv_at hl 2 rfl) ?_
                obtain ⟨b5, hf⟩ := ckc_open hf
                obtain ⟨r8, h15, g19, hf⟩ := bnd_open hf
                refine p_callV_r (ci := 0) (As := [.int x10, .int a1, .int a2]) (rest := []) X hM hl rfl b5 pcy_X0_isSource q1488 q1490 qs48 (kX0_isSource g19) rfl (Nat.le_of_ble_eq_true rfl) (Nat.le_of_ble_eq_true rfl) rfl dX0_probe_105 (fun H locs hM => ?_)
                obtain ⟨j157, ej157, hf⟩ := jn_open hf
                have J157 : ∀ (x11 : Int32) (h16 : PH) (H : Heap) (locs : List Loc), j157 x11 h16 = some (r, h') → PI D A cap H0 h16 H locs → ∀ ls : Array Slot, lv_has ls 9 [(0, .ref a0), (1, .int a1), (2, .int a2), (3, .int a3), (4, .int x11), (5, .int x10)] → Z H locs (cx H) (sx H) (F0 m 157 ls []) := by
                  intro x11 h16 H locs hf hM ls hl
                  rw [ej157] at hf
                  refine g_iinc (v := x10 + 1) (lv' := [(5, .int (x10 + 1)), (0, .ref a0), (1, .int a1), (2, .int a2), (3, .int a3), (4, .int x11)]) G dX0_probe_157 hl (k := 5) rfl rfl (Nat.le_of_ble_eq_true rfl) rfl (fun ls hl => ?_)
                  refine g_goto (tgt := 91) G dX0_probe_160 rfl ?_
                  exact ih91 _ _ _ _ _ hf hM ls (lv_sub hl [1, 2, 3, 4, 5, 0] rfl)
                refine g_if_ne (tgt := 114) G dX0_probe_108 rfl (fun c10 => ?_) (fun c10 => ?_)
                · have hf := it_neg c10 hf
                  refine g_iinc (v := x9 + 1) (lv' := [(4, .int (x9 + 1)), (0, .ref a0), (1, .int a1), (2, .int a2), (3, .int a3), (5, .int x10)]) G dX0_probe_114 hl (k := 4) rfl rfl (Nat.le_of_ble_eq_true rfl) rfl (fun ls hl => ?_)
                  refine g_iconst (v := 0) G dX0_probe_117 rfl ?_
                  refine g_istore (lv' := [(6, .int 0), (4, .int (x9 + 1)), (0, .ref a0), (1, .int a1), (2, .int a2), (3, .int a3), (5, .int x10)]) G dX0_probe_118 hl (Nat.le_of_ble_eq_true rfl) rfl (fun ls hl => ?_)
                  have L120 : ∀ (n : Nat) (x12 : Int32) (h17 : PH) (H : Heap) (locs : List Loc), fx (fX0_probe_L120 a0 a1 x9 j157) (fun _ _ => none) n x12 h17 = some (r, h') → PI D A cap H0 h17 H locs → ∀ ls : Array Slot, lv_has ls 9 [(0, .ref a0), (1, .int a1), (2, .int a2), (3, .int a3), (4, .int (x9 + 1)), (5, .int x10), (6, .int x12)] → Z H locs (cx H) (sx H) (F0 m 120 ls []) := by
                    intro n
                    induction n with
                    | zero => intro x12 h17 H locs hf; exact absurd hf (by intro q; cases q)
                    | succ n ih120 =>
                      intro x12 h17 H locs hf hM ls hl
                      rw [fx_s] at hf
                      generalize fx (fX0_probe_L120 a0 a1 x9 j157) (fun _ _ => none) n = s120 at hf ih120
                      unfold fX0_probe_L120 at hf
                      refine g_iload G dX0_probe_120 (lv_at hl 6 rfl) ?_
                      refine g_aload_n G dX0_probe_122 rfl (lv_at hl 0 rfl) ?_
                      obtain ⟨b6, hf⟩ := ckc_open hf
                      obtain ⟨r9, h18, g20, hf⟩ := bnd_open hf
                      refine p_callV_r (ci := 0) (As := []) (rest := [.int x12]) X hM hl rfl b6 pcy_X0_people q1227 q1208 qs34 (kX0_people g20) rfl (Nat.le_of_ble_eq_true rfl) (Nat.le_of_ble_eq_true rfl) rfl dX0_probe_123 (fun H locs hM => ?_)
                      refine g_icmp_ge (tgt := 157) G dX0_probe_126 rfl (fun c11 => ?_) (fun c11 => ?_)
                      · have hf := it_pos c11 hf
                        exact J157 _ _ _ _ hf hM ls (lv_sub hl [0, 1, 2, 3, 4, 5] rfl)
                      · have hf := it_neg c11 hf
                        refine g_aload_n G dX0_probe_129 rfl (lv_at hl 0 rfl) ?_
                        obtain ⟨p5, g21, hf⟩ := vA_open hf
                        refine p_get (k := 14) X hM pc_0 (by decide) q462 rfl g21 dX0_probe_130 ?_
                        refine g_iload G dX0_probe_133 (lv_at hl 6 rfl) ?_
                        obtain ⟨q4, g22, hf⟩ := ob_open hf
                        refine p_aald X hM (kd := 6) (by decide) rfl g22 dX0_probe_135 ?_
                        refine g_aload_n G dX0_probe_136 rfl (lv_at hl 0 rfl) ?_
                        obtain ⟨p6, g23, hf⟩ := vA_open hf
                        refine p_get (k := 10) X hM pc_0 (by decide) q458 rfl g23 dX0_probe_137 ?_
                        refine g_iload G dX0_probe_140 (lv_at hl 6 rfl) ?_
                        refine g_iload_n G dX0_probe_142 rfl (lv_at hl 1 rfl) ?_
                        obtain ⟨b7, hf⟩ := ckc_open hf
                        obtain ⟨r10, h19, g24, hf⟩ := bnd_open hf
                        refine p_callV_r (ci := 5) (As := [.int x12, .int a1]) (rest := [va_rf q4]) X hM hl rfl b7 pcy_X5_stands q1281 q1282 q1283 (kX5_stands g24) rfl (Nat.le_of_ble_eq_true rfl) (by simp [cat_q, cat_i, cat_l, cat_r]) rfl dX0_probe_143 (fun H locs hM => ?_)
                        refine g_dup2_11 G dX0_probe_146 rfl (by exact cat_q _) ?_
                        obtain ⟨n4, e4, hfq⟩ := qS_open hf
                        clear hf; subst e4; have hf := hfq; clear hfq
                        obtain ⟨v4, g25, hf⟩ := ob_open hf
                        refine p_iald X hM g25 dX0_probe_147 ?_
                        refine g_iconst (v := 1) G dX0_probe_148 rfl ?_
                        refine g_iadd G dX0_probe_149 ?_
                        obtain ⟨h20, g26, hf⟩ := bnv_open hf
                        refine p_iast X hM g26 dX0_probe_150 (fun H locs hM => ?_)
                        refine g_iinc (v := x12 + 1) (lv' := [(6, .int (x12 + 1)), (0, .ref a0), (1, .int a1), (2, .int a2), (3, .int a3), (4, .int (x9 + 1)), (5, .int x10)]) G dX0_probe_151 hl (k := 6) rfl rfl (Nat.le_of_ble_eq_true rfl) rfl (fun ls hl => ?_)
                        refine g_goto (tgt := 120) G dX0_probe_154 rfl ?_
                        exact ih120 _ _ _ _ hf hM ls (lv_sub hl [1, 2, 3, 4, 5, 6, 0] rfl)
                  exact L120 FU _ _ _ _ hf hM ls (lv_sub hl [2, 3, 4, 5, 1, 6, 0] rfl)
                · have hf := it_pos c10 hf
                  refine g_goto (tgt := 157) G dX0_probe_111 rfl ?_
                  exact J157 _ _ _ _ hf hM ls (lv_sub hl [0, 1, 2, 3, 4, 5] rfl)
          exact L91 FU _ _ _ _ _ hf hM ls (lv_sub hl [2, 3, 4, 5, 1, 0] rfl)
        have L44 : ∀ (n : Nat) (x13 : Int32) (h21 : PH) (H : Heap) (locs : List Loc), fx (fX0_probe_L44 p1 w1 k85) (fun _ _ => none) n x13 h21 = some (r, h') → PI D A cap H0 h21 H locs → ∀ ls : Array Slot, lv_has ls 9 [(0, .ref a0), (1, .int a1), (2, .int a2), (3, .int a3), (4, .ref p1), (5, .int (nI w1.1)), (6, .int x13)] → Z H locs (cx H) (sx H) (F0 m 44 ls []) := by
          intro n
          induction n with
          | zero => intro x13 h21 H locs hf; exact absurd hf (by intro q; cases q)
          | succ n ih44 =>
            intro x13 h21 H locs hf hM ls hl
            rw [fx_s] at hf
            generalize fx (fX0_probe_L44 p1 w1 k85) (fun _ _ => none) n = s44 at hf ih44
            unfold fX0_probe_L44 at hf
            refine g_iload G dX0_probe_44 (lv_at hl 6 rfl) ?_
            refine g_iload G dX0_probe_46 (lv_at hl 5 rfl) ?_
            refine g_icmp_ge (tgt := 85) G dX0_probe_48 rfl (fun c12 => ?_) (fun c12 => ?_)
            · have hf := it_pos c12 hf
              exact K85 _ _ _ hf hM ls (lv_sub hl [0, 1, 2, 3] rfl)
            · have hf := it_neg c12 hf
              refine g_aload G dX0_probe_51 (lv_at hl 4 rfl) ?_
              refine g_iload G dX0_probe_53 (lv_at hl 6 rfl) ?_
              obtain ⟨q5, g27, hf⟩ := ob_open hf
              refine p_aald X hM (kd := 6) (by decide) rfl g27 dX0_probe_55 ?_
              refine g_astoreQ (lv' := [(7, va_rf q5), (0, .ref a0), (1, .int a1), (2, .int a2), (3, .int a3), (4, .ref p1), (5, .int (nI w1.1)), (6, .int x13)]) G dX0_probe_56 hl (Nat.le_of_ble_eq_true rfl) (by simp [cat_q, cat_i, cat_l, cat_r]) (fun ls hl => ?_)
              refine g_iconst (v := 0) G dX0_probe_58 rfl ?_
              refine g_istore (lv' := [(8, .int 0), (7, va_rf q5), (0, .ref a0), (1, .int a1), (2, .int a2), (3, .int a3), (4, .ref p1), (5, .int (nI w1.1)), (6, .int x13)]) G dX0_probe_59 hl (Nat.le_of_ble_eq_true rfl) (by simp [cat_q, cat_i, cat_l, cat_r]) (fun ls hl => ?_)
              obtain ⟨k79, ek79, hf⟩ := jn_open hf
              have K79 : ∀ (h22 : PH) (H : Heap) (locs : List Loc), k79 h22 = some (r, h') → PI D A cap H0 h22 H locs → ∀ ls : Array Slot, lv_has ls 9 [(0, .ref a0), (1, .int a1), (2, .int a2), (3, .int a3), (4, .ref p1), (5, .int (nI w1.1)), (6, .int x13)] → Z H locs (cx H) (sx H) (F0 m 79 ls []) := by
                intro h22 H locs hf hM ls hl
                rw [ek79] at hf
                refine g_iinc (v := x13 + 1) (lv' := [(6, .int (x13 + 1)), (0, .ref a0), (1, .int a1), (2, .int a2), (3, .int a3), (4, .ref p1), (5, .int (nI w1.1))]) G dX0_probe_79 hl (k := 6) rfl rfl (Nat.le_of_ble_eq_true rfl) rfl (fun ls hl => ?_)
                refine g_goto (tgt := 44) G dX0_probe_82 rfl ?_
                exact ih44 _ _ _ _ hf hM ls (lv_sub hl [1, 2, 3, 4, 5, 6, 0] rfl)
              have L61 : ∀ (n : Nat) (x14 : Int32) (h23 : PH) (H : Heap) (locs : List Loc), fx (fX0_probe_L61 q5 k79) (fun _ _ => none) n x14 h23 = some (r, h') → PI D A cap H0 h23 H locs → ∀ ls : Array Slot, lv_has ls 9 [(0, .ref a0), (1, .int a1), (2, .int a2), (3, .int a3), (4, .ref p1), (5, .int (nI w1.1)), (6, .int x13), (7, va_rf q5), (8, .int x14)] → Z H locs (cx H) (sx H) (F0 m 61 ls []) := by
                intro n
                induction n with
                | zero => intro x14 h23 H locs hf; exact absurd hf (by intro q; cases q)
                | succ n ih61 =>
                  intro x14 h23 H locs hf hM ls hl
                  rw [fx_s] at hf
                  generalize fx (fX0_probe_L61 q5 k79) (fun _ _ => none) n = s61 at hf ih61
                  unfold fX0_probe_L61 at hf
                  refine g_iload G dX0_probe_61 (lv_at hl 8 rfl) ?_
                  refine g_iconst (v := 3) G dX0_probe_63 rfl ?_
                  refine g_icmp_ge (tgt := 79) G dX0_probe_64 rfl (fun c13 => ?_) (fun c13 => ?_)
                  · have hf := it_pos c13 hf
                    exact K79 _ _ _ hf hM ls (lv_sub hl [0, 1, 2, 3, 4, 5, 6] rfl)
                  · have hf := it_neg c13 hf
                    refine g_aloadQ G dX0_probe_67 (lv_at hl 7 rfl) ?_
                    refine g_iload G dX0_probe_69 (lv_at hl 8 rfl) ?_
                    refine g_iconst (v := 0) G dX0_probe_71 rfl ?_
                    obtain ⟨n5, e5, hfq⟩ := qS_open hf
                    clear hf; subst e5; have hf := hfq; clear hfq
                    obtain ⟨h24, g28, hf⟩ := bnv_open hf
                    refine p_iast X hM g28 dX0_probe_72 (fun H locs hM => ?_)
                    refine g_iinc (v := x14 + 1) (lv' := [(8, .int (x14 + 1)), (0, .ref a0), (1, .int a1), (2, .int a2), (3, .int a3), (4, .ref p1), (5, .int (nI w1.1)), (6, .int x13), (7, .ref n5)]) G dX0_probe_73 hl (k := 8) rfl rfl (Nat.le_of_ble_eq_true rfl) rfl (fun ls hl => ?_)
                    refine g_goto (tgt := 61) G dX0_probe_76 rfl ?_
                    exact ih61 _ _ _ _ hf hM ls (lv_sub hl [1, 2, 3, 4, 5, 6, 7, 8, 0] rfl)
              exact L61 FU _ _ _ _ hf hM ls (lv_sub hl [2, 3, 4, 5, 6, 7, 8, 1, 0] rfl)
        exact L44 FU _ _ _ _ hf hM ls (lv_sub hl [3, 4, 5, 6, 2, 1, 0] rfl)
      · have hf := it_pos c3 hf
        refine g_iconst (v := (-1)) G dX0_probe_28 rfl ?_
        exact p_iret X hM hf dX0_probe_29
theorem pcy_X0_areParted : pcY yX0_areParted cX0_areParted 6 (Option.some Jvm.ClassFile.FieldType.boolean) 3 := ⟨q1508, q145, ⟨by decide +kernel, by decide +kernel, by decide +kernel⟩, Nat.le_of_ble_eq_true rfl⟩
noncomputable def fX0_areParted_L15 (a0 : Nat) (a1 : Int32) (a2 : Int32) (a3 : Int32) (x1 : Int32) (k83 : PH → Option (Bool × PH)) (s15 : Int32 → PH → Option (Bool × PH)) (x2 : Int32) (h4 : PH) : Option (Bool × PH) :=
  ckc (pCls h4 a0) 0 <|
  bnd (fX0_people a0 h4) fun r2 h5 =>
  if r2 ≤ x2 then
    k83 h5
  else
    bnd (fX0_has a1 x1 h5) fun r3 h6 =>
    jn (fun (h7 : PH) =>
      s15 (x2 + 1) h7) fun j77 =>
    if (bI r3) = 0 then
      j77 h6
    else
      bnd (fX0_has a2 x2 h6) fun r4 h8 =>
      if (bI r4) = 0 then
        j77 h8
      else
        vA (pF h8 a0 0 9) fun p1 =>
        vA (pF h8 p1 5 5) fun p2 =>
        ob (pLd h8 p2 0 x1) fun v1 =>
        bnd (fJ16_bitCount (v1 &&& a3) h8) fun r5 h9 =>
        vA (pF h9 a0 0 9) fun p3 =>
        vA (pF h9 p3 5 5) fun p4 =>
        ob (pLd h9 p4 0 x2) fun v2 =>
        bnd (fJ16_bitCount (v2 &&& a3) h9) fun r6 h10 =>
        if r6 < r5 then
          j77 h10
        else
          some (false, h10)
noncomputable def fX0_areParted_L3 (a0 : Nat) (a1 : Int32) (a2 : Int32) (a3 : Int32) (s3 : Int32 → PH → Option (Bool × PH)) (x1 : Int32) (h1 : PH) : Option (Bool × PH) :=
  ckc (pCls h1 a0) 0 <|
  bnd (fX0_people a0 h1) fun r1 h2 =>
  if r1 ≤ x1 then
    some (true, h2)
  else
    jn (fun (h3 : PH) =>
      s3 (x1 + 1) h3) fun k83 =>
    fx (fX0_areParted_L15 a0 a1 a2 a3 x1 k83) (fun _ _ => none) FU 0 h2
noncomputable def fX0_areParted (a0 : Nat) (a1 : Int32) (a2 : Int32) (a3 : Int32) (h : PH) : Option (Bool × PH) :=
  fx (fX0_areParted_L3 a0 a1 a2 a3) (fun _ _ => none) FU 0 h
set_option maxHeartbeats 1000000 in
theorem kX0_areParted {l : Launch} {D : PD} {A : Nat → Prop} {cap : Nat × Nat} {a0 : Nat} {a1 : Int32} {a2 : Int32} {a3 : Int32} {h h' : PH} {r : Bool} (hf : fX0_areParted a0 a1 a2 a3 h = some (r, h')) : CMet l D A cap yX0_areParted cX0_areParted 6 (Option.some Jvm.ClassFile.FieldType.boolean) 3 [.ref a0, .int a1, .int a2, .int a3] h h' (some (.int (bI r))) := by
  unfold fX0_areParted at hf
  refine p_head (own := RX0) (ini := false) (pn_X0 rfl) rfl (fun q => by cases q) (Nat.le_of_ble_eq_true rfl) (fun m Z cx sx H0 ls X hM hl => ?_)
  have G := X.g
  have hl : lv_has ls 6 [(0, .ref a0), (1, .int a1), (2, .int a2), (3, .int a3)] := hl
  refine g_iconst (v := 0) G dX0_areParted_0 rfl ?_
  refine g_istore (lv' := [(4, .int 0), (0, .ref a0), (1, .int a1), (2, .int a2), (3, .int a3)]) G dX0_areParted_1 hl (Nat.le_of_ble_eq_true rfl) rfl (fun ls hl => ?_)
  have L3 : ∀ (n : Nat) (x1 : Int32) (h1 : PH) (H : Heap) (locs : List Loc), fx (fX0_areParted_L3 a0 a1 a2 a3) (fun _ _ => none) n x1 h1 = some (r, h') → PI D A cap H0 h1 H locs → ∀ ls : Array Slot, lv_has ls 6 [(0, .ref a0), (1, .int a1), (2, .int a2), (3, .int a3), (4, .int x1)] → Z H locs (cx H) (sx H) (F0 m 3 ls []) := by
    intro n
    induction n with
    | zero => intro x1 h1 H locs hf; exact absurd hf (by intro q; cases q)
    | succ n ih3 =>
      intro x1 h1 H locs hf hM ls hl
      rw [fx_s] at hf
      generalize fx (fX0_areParted_L3 a0 a1 a2 a3) (fun _ _ => none) n = s3 at hf ih3
      unfold fX0_areParted_L3 at hf
      refine g_iload G dX0_areParted_3 (lv_at hl 4 rfl) ?_
      refine g_aload_n G dX0_areParted_5 rfl (lv_at hl 0 rfl) ?_
      obtain ⟨b1, hf⟩ := ckc_open hf
      obtain ⟨r1, h2, g1, hf⟩ := bnd_open hf
      refine p_callV_r (ci := 0) (As := []) (rest := [.int x1]) X hM hl rfl b1 pcy_X0_people q1227 q1208 qs34 (kX0_people g1) rfl (Nat.le_of_ble_eq_true rfl) (Nat.le_of_ble_eq_true rfl) rfl dX0_areParted_6 (fun H locs hM => ?_)
      refine g_icmp_ge (tgt := 89) G dX0_areParted_9 rfl (fun c1 => ?_) (fun c1 => ?_)
      · have hf := it_pos c1 hf
        refine g_iconst (v := 1) G dX0_areParted_89 rfl ?_
        exact p_zret X hM hf dX0_areParted_90
      · have hf := it_neg c1 hf
        refine g_iconst (v := 0) G dX0_areParted_12 rfl ?_
        refine g_istore (lv' := [(5, .int 0), (0, .ref a0), (1, .int a1), (2, .int a2), (3, .int a3), (4, .int x1)]) G dX0_areParted_13 hl (Nat.le_of_ble_eq_true rfl) rfl (fun ls hl => ?_)
        obtain ⟨k83, ek83, hf⟩ := jn_open hf
        have K83 : ∀ (h3 : PH) (H : Heap) (locs : List Loc), k83 h3 = some (r, h') → PI D A cap H0 h3 H locs → ∀ ls : Array Slot, lv_has ls 6 [(0, .ref a0), (1, .int a1), (2, .int a2), (3, .int a3), (4, .int x1)] → Z H locs (cx H) (sx H) (F0 m 83 ls []) := by
          intro h3 H locs hf hM ls hl
          rw [ek83] at hf
          refine g_iinc (v := x1 + 1) (lv' := [(4, .int (x1 + 1)), (0, .ref a0), (1, .int a1), (2, .int a2), (3, .int a3)]) G dX0_areParted_83 hl (k := 4) rfl rfl (Nat.le_of_ble_eq_true rfl) rfl (fun ls hl => ?_)
          refine g_goto (tgt := 3) G dX0_areParted_86 rfl ?_
          exact ih3 _ _ _ _ hf hM ls (lv_sub hl [1, 2, 3, 4, 0] rfl)
        have L15 : ∀ (n : Nat) (x2 : Int32) (h4 : PH) (H : Heap) (locs : List Loc), fx (fX0_areParted_L15 a0 a1 a2 a3 x1 k83) (fun _ _ => none) n x2 h4 = some (r, h') → PI D A cap H0 h4 H locs → ∀ ls : Array Slot, lv_has ls 6 [(0, .ref a0), (1, .int a1), (2, .int a2), (3, .int a3), (4, .int x1), (5, .int x2)] → Z H locs (cx H) (sx H) (F0 m 15 ls []) := by
          intro n
          induction n with
          | zero => intro x2 h4 H locs hf; exact absurd hf (by intro q; cases q)
          | succ n ih15 =>
            intro x2 h4 H locs hf hM ls hl
            rw [fx_s] at hf
            generalize fx (fX0_areParted_L15 a0 a1 a2 a3 x1 k83) (fun _ _ => none) n = s15 at hf ih15
            unfold fX0_areParted_L15 at hf
            refine g_iload G dX0_areParted_15 (lv_at hl 5 rfl) ?_
            refine g_aload_n G dX0_areParted_17 rfl (lv_at hl 0 rfl) ?_
            obtain ⟨b2, hf⟩ := ckc_open hf
            obtain ⟨r2, h5, g2, hf⟩ := bnd_open hf
            refine p_callV_r (ci := 0) (As := []) (rest := [.int x2]) X hM hl rfl b2 pcy_X0_people q1227 q1208 qs34 (kX0_people g2) rfl (Nat.le_of_ble_eq_true rfl) (Nat.le_of_ble_eq_true rfl) rfl dX0_areParted_18 (fun H locs hM => ?_)
            refine g_icmp_ge (tgt := 83) G dX0_areParted_21 rfl (fun c2 => ?_) (fun c2 => ?_)
            · have hf := it_pos c2 hf
              exact K83 _ _ _ hf hM ls (lv_sub hl [0, 1, 2, 3, 4] rfl)
            · have hf := it_neg c2 hf
              refine g_iload_n G dX0_areParted_24 rfl (lv_at hl 1 rfl) ?_
              refine g_iload G dX0_areParted_25 (lv_at hl 4 rfl) ?_
              obtain ⟨r3, h6, g3, hf⟩ := bnd_open hf
              refine p_callS_r (As := [.int a1, .int x1]) (rest := []) X hM hl pcy_X0_has q1302 q914 (kX0_has g3) rfl (Nat.le_of_ble_eq_true rfl) (Nat.le_of_ble_eq_true rfl) rfl dX0_areParted_27 (fun H locs hM => ?_)
              obtain ⟨j77, ej77, hf⟩ := jn_open hf
              have J77 : ∀ (h7 : PH) (H : Heap) (locs : List Loc), j77 h7 = some (r, h') → PI D A cap H0 h7 H locs → ∀ ls : Array Slot, lv_has ls 6 [(0, .ref a0), (1, .int a1), (2, .int a2), (3, .int a3), (4, .int x1), (5, .int x2)] → Z H locs (cx H) (sx H) (F0 m 77 ls []) := by
                intro h7 H locs hf hM ls hl
                rw [ej77] at hf
                refine g_iinc (v := x2 + 1) (lv' := [(5, .int (x2 + 1)), (0, .ref a0), (1, .int a1), (2, .int a2), (3, .int a3), (4, .int x1)]) G dX0_areParted_77 hl (k := 5) rfl rfl (Nat.le_of_ble_eq_true rfl) rfl (fun ls hl => ?_)
                refine g_goto (tgt := 15) G dX0_areParted_80 rfl ?_
                exact ih15 _ _ _ _ hf hM ls (lv_sub hl [1, 2, 3, 4, 5, 0] rfl)
              refine g_if_eq (tgt := 77) G dX0_areParted_30 rfl (fun c3 => ?_) (fun c3 => ?_)
              · have hf := it_pos c3 hf
                exact J77 _ _ _ hf hM ls (lv_sub hl [0, 1, 2, 3, 4, 5] rfl)
              · have hf := it_neg c3 hf
                refine g_iload_n G dX0_areParted_33 rfl (lv_at hl 2 rfl) ?_
                refine g_iload G dX0_areParted_34 (lv_at hl 5 rfl) ?_
                obtain ⟨r4, h8, g4, hf⟩ := bnd_open hf
                refine p_callS_r (As := [.int a2, .int x2]) (rest := []) X hM hl pcy_X0_has q1302 q914 (kX0_has g4) rfl (Nat.le_of_ble_eq_true rfl) (Nat.le_of_ble_eq_true rfl) rfl dX0_areParted_36 (fun H locs hM => ?_)
                refine g_if_eq (tgt := 77) G dX0_areParted_39 rfl (fun c4 => ?_) (fun c4 => ?_)
                · have hf := it_pos c4 hf
                  exact J77 _ _ _ hf hM ls (lv_sub hl [0, 1, 2, 3, 4, 5] rfl)
                · have hf := it_neg c4 hf
                  refine g_aload_n G dX0_areParted_42 rfl (lv_at hl 0 rfl) ?_
                  obtain ⟨p1, g5, hf⟩ := vA_open hf
                  refine p_get (k := 9) X hM pc_0 (by decide) q457 rfl g5 dX0_areParted_43 ?_
                  obtain ⟨p2, g6, hf⟩ := vA_open hf
                  refine p_getN (k := 5) X hM pc_5 (by decide) q407 rfl g6 dX0_areParted_46 ?_
                  refine g_iload G dX0_areParted_49 (lv_at hl 4 rfl) ?_
                  obtain ⟨v1, g7, hf⟩ := ob_open hf
                  refine p_iald X hM g7 dX0_areParted_51 ?_
                  refine g_iload_n G dX0_areParted_52 rfl (lv_at hl 3 rfl) ?_
                  refine g_iand G dX0_areParted_53 ?_
                  obtain ⟨r5, h9, g8, hf⟩ := bnd_open hf
                  refine p_callS_r (As := [.int (v1 &&& a3)]) (rest := []) X hM hl pcy_J16_bitCount q1228 q1229 (kJ16_bitCount g8) rfl (Nat.le_of_ble_eq_true rfl) (Nat.le_of_ble_eq_true rfl) rfl dX0_areParted_54 (fun H locs hM => ?_)
                  refine g_aload_n G dX0_areParted_57 rfl (lv_at hl 0 rfl) ?_
                  obtain ⟨p3, g9, hf⟩ := vA_open hf
                  refine p_get (k := 9) X hM pc_0 (by decide) q457 rfl g9 dX0_areParted_58 ?_
                  obtain ⟨p4, g10, hf⟩ := vA_open hf
                  refine p_getN (k := 5) X hM pc_5 (by decide) q407 rfl g10 dX0_areParted_61 ?_
                  refine g_iload G dX0_areParted_64 (lv_at hl 5 rfl) ?_
                  obtain ⟨v2, g11, hf⟩ := ob_open hf
                  refine p_iald X hM g11 dX0_areParted_66 ?_
                  refine g_iload_n G dX0_areParted_67 rfl (lv_at hl 3 rfl) ?_
                  refine g_iand G dX0_areParted_68 ?_
                  obtain ⟨r6, h10, g12, hf⟩ := bnd_open hf
                  refine p_callS_r (As := [.int (v2 &&& a3)]) (rest := [.int r5]) X hM hl pcy_J16_bitCount q1228 q1229 (kJ16_bitCount g12) rfl (Nat.le_of_ble_eq_true rfl) (Nat.le_of_ble_eq_true rfl) rfl dX0_areParted_69 (fun H locs hM => ?_)
                  refine g_icmp_gt (tgt := 77) G dX0_areParted_72 rfl (fun c5 => ?_) (fun c5 => ?_)
                  · have hf := it_pos c5 hf
                    exact J77 _ _ _ hf hM ls (lv_sub hl [0, 1, 2, 3, 4, 5] rfl)
                  · have hf := it_neg c5 hf
                    refine g_iconst (v := 0) G dX0_areParted_75 rfl ?_
                    exact p_zret X hM hf dX0_areParted_76
        exact L15 FU _ _ _ _ hf hM ls (lv_sub hl [1, 2, 3, 4, 5, 0] rfl)
  exact L3 FU _ _ _ _ hf hM ls (lv_sub hl [1, 2, 3, 4, 0] rfl)
theorem pcy_X0_part : pcY yX0_part cX0_part 5 (Option.some Jvm.ClassFile.FieldType.int) 2 := ⟨q1500, q145, ⟨by decide +kernel, by decide +kernel, by decide +kernel⟩, Nat.le_of_ble_eq_true rfl⟩
noncomputable def fX0_part_L31 (a0 : Nat) (a1 : Int32) (a2 : Int32) (s31 : Int32 → Int32 → PH → Option (Int32 × PH)) (x1 : Int32) (x2 : Int32) (h2 : PH) : Option (Int32 × PH) :=
  ckc (pCls h2 a0) 0 <|
  bnd (fX0_facts a0 h2) fun r2 h3 =>
  if ((1 : Int32) <<< (r2 &&& 31)) ≤ x2 then
    some (x1, h3)
  else
    jn (fun (x3 : Int32) (h4 : PH) =>
      s31 x3 (x2 + 1) h4) fun j73 =>
    jn (fun (h5 : PH) =>
      ckc (pCls h5 a0) 0 <|
      bnd (fX0_areParted a0 a1 a2 x2 h5) fun r3 h6 =>
      if (bI r3) = 0 then
        j73 x1 h6
      else
        j73 x2 h6) fun j59 =>
    if x1 = ((-1) : Int32) then
      j59 h3
    else
      bnd (fJ16_bitCount x2 h3) fun r4 h7 =>
      bnd (fJ16_bitCount x1 h7) fun r5 h8 =>
      if r5 ≤ r4 then
        j73 x1 h8
      else
        j59 h8
noncomputable def fX0_part (a0 : Nat) (a1 : Int32) (a2 : Int32) (h : PH) : Option (Int32 × PH) :=
  if a1 < 0 then
    some ((-1), h)
  else
    if a2 < 0 then
      some ((-1), h)
    else
      ckc (pCls h a0) 0 <|
      bnd (fX0_allPeople a0 h) fun r1 h1 =>
      if r1 < (a1 ||| a2) then
        some ((-1), h1)
      else
        if (a1 &&& a2) = 0 then
          fx (fX0_part_L31 a0 a1 a2) (fun _ _ _ => none) FU (-1) 0 h1
        else
          some ((-1), h1)
set_option maxHeartbeats 1000000 in
theorem kX0_part {l : Launch} {D : PD} {A : Nat → Prop} {cap : Nat × Nat} {a0 : Nat} {a1 : Int32} {a2 : Int32} {h h' : PH} {r : Int32} (hf : fX0_part a0 a1 a2 h = some (r, h')) : CMet l D A cap yX0_part cX0_part 5 (Option.some Jvm.ClassFile.FieldType.int) 4 [.ref a0, .int a1, .int a2] h h' (some (.int r)) := by
  unfold fX0_part at hf
  refine p_head (own := RX0) (ini := false) (pn_X0 rfl) rfl (fun q => by cases q) (Nat.le_of_ble_eq_true rfl) (fun m Z cx sx H0 ls X hM hl => ?_)
  have G := X.g
  have hl : lv_has ls 5 [(0, .ref a0), (1, .int a1), (2, .int a2)] := hl
  refine g_iload_n G dX0_part_0 rfl (lv_at hl 1 rfl) ?_
  refine g_if_lt (tgt := 24) G dX0_part_1 rfl (fun c1 => ?_) (fun c1 => ?_)
  · have hf := it_pos c1 hf
    refine g_iconst (v := (-1)) G dX0_part_24 rfl ?_
    exact p_iret X hM hf dX0_part_25
  · have hf := it_neg c1 hf
    refine g_iload_n G dX0_part_4 rfl (lv_at hl 2 rfl) ?_
    refine g_if_lt (tgt := 24) G dX0_part_5 rfl (fun c2 => ?_) (fun c2 => ?_)
    · have hf := it_pos c2 hf
      refine g_iconst (v := (-1)) G dX0_part_24 rfl ?_
      exact p_iret X hM hf dX0_part_25
    · have hf := it_neg c2 hf
      refine g_iload_n G dX0_part_8 rfl (lv_at hl 1 rfl) ?_
      refine g_iload_n G dX0_part_9 rfl (lv_at hl 2 rfl) ?_
      refine g_ior G dX0_part_10 ?_
      refine g_aload_n G dX0_part_11 rfl (lv_at hl 0 rfl) ?_
      obtain ⟨b1, hf⟩ := ckc_open hf
      obtain ⟨r1, h1, g1, hf⟩ := bnd_open hf
      refine p_callV_r (ci := 0) (As := []) (rest := [.int (a1 ||| a2)]) X hM hl rfl b1 pcy_X0_allPeople q1501 q1503 qs49 (kX0_allPeople g1) rfl (Nat.le_of_ble_eq_true rfl) (Nat.le_of_ble_eq_true rfl) rfl dX0_part_12 (fun H locs hM => ?_)
      refine g_icmp_gt (tgt := 24) G dX0_part_15 rfl (fun c3 => ?_) (fun c3 => ?_)
      · have hf := it_pos c3 hf
        refine g_iconst (v := (-1)) G dX0_part_24 rfl ?_
        exact p_iret X hM hf dX0_part_25
      · have hf := it_neg c3 hf
        refine g_iload_n G dX0_part_18 rfl (lv_at hl 1 rfl) ?_
        refine g_iload_n G dX0_part_19 rfl (lv_at hl 2 rfl) ?_
        refine g_iand G dX0_part_20 ?_
        refine g_if_eq (tgt := 26) G dX0_part_21 rfl (fun c4 => ?_) (fun c4 => ?_)
        · have hf := it_pos c4 hf
          refine g_iconst (v := (-1)) G dX0_part_26 rfl ?_
          refine g_istore_n (i := 3) (lv' := [(3, .int (-1)), (0, .ref a0), (1, .int a1), (2, .int a2)]) G dX0_part_27 rfl hl (Nat.le_of_ble_eq_true rfl) rfl (fun ls hl => ?_)
          refine g_iconst (v := 0) G dX0_part_28 rfl ?_
          refine g_istore (lv' := [(4, .int 0), (3, .int (-1)), (0, .ref a0), (1, .int a1), (2, .int a2)]) G dX0_part_29 hl (Nat.le_of_ble_eq_true rfl) rfl (fun ls hl => ?_)
          have L31 : ∀ (n : Nat) (x1 : Int32) (x2 : Int32) (h2 : PH) (H : Heap) (locs : List Loc), fx (fX0_part_L31 a0 a1 a2) (fun _ _ _ => none) n x1 x2 h2 = some (r, h') → PI D A cap H0 h2 H locs → ∀ ls : Array Slot, lv_has ls 5 [(0, .ref a0), (1, .int a1), (2, .int a2), (3, .int x1), (4, .int x2)] → Z H locs (cx H) (sx H) (F0 m 31 ls []) := by
            intro n
            induction n with
            | zero => intro x1 x2 h2 H locs hf; exact absurd hf (by intro q; cases q)
            | succ n ih31 =>
              intro x1 x2 h2 H locs hf hM ls hl
              rw [fx_s] at hf
              generalize fx (fX0_part_L31 a0 a1 a2) (fun _ _ _ => none) n = s31 at hf ih31
              unfold fX0_part_L31 at hf
              refine g_iload G dX0_part_31 (lv_at hl 4 rfl) ?_
              refine g_iconst (v := 1) G dX0_part_33 rfl ?_
              refine g_aload_n G dX0_part_34 rfl (lv_at hl 0 rfl) ?_
              obtain ⟨b2, hf⟩ := ckc_open hf
              obtain ⟨r2, h3, g2, hf⟩ := bnd_open hf
              refine p_callV_r (ci := 0) (As := []) (rest := [.int 1, .int x2]) X hM hl rfl b2 pcy_X0_facts q1223 q1225 qs35 (kX0_facts g2) rfl (Nat.le_of_ble_eq_true rfl) (Nat.le_of_ble_eq_true rfl) rfl dX0_part_35 (fun H locs hM => ?_)
              refine g_ishl G dX0_part_38 ?_
              refine g_icmp_ge (tgt := 79) G dX0_part_39 rfl (fun c5 => ?_) (fun c5 => ?_)
              · have hf := it_pos c5 hf
                refine g_iload_n G dX0_part_79 rfl (lv_at hl 3 rfl) ?_
                exact p_iret X hM hf dX0_part_80
              · have hf := it_neg c5 hf
                refine g_iload_n G dX0_part_42 rfl (lv_at hl 3 rfl) ?_
                refine g_iconst (v := (-1)) G dX0_part_43 rfl ?_
                obtain ⟨j73, ej73, hf⟩ := jn_open hf
                have J73 : ∀ (x3 : Int32) (h4 : PH) (H : Heap) (locs : List Loc), j73 x3 h4 = some (r, h') → PI D A cap H0 h4 H locs → ∀ ls : Array Slot, lv_has ls 5 [(0, .ref a0), (1, .int a1), (2, .int a2), (3, .int x3), (4, .int x2)] → Z H locs (cx H) (sx H) (F0 m 73 ls []) := by
                  intro x3 h4 H locs hf hM ls hl
                  rw [ej73] at hf
                  refine g_iinc (v := x2 + 1) (lv' := [(4, .int (x2 + 1)), (0, .ref a0), (1, .int a1), (2, .int a2), (3, .int x3)]) G dX0_part_73 hl (k := 4) rfl rfl (Nat.le_of_ble_eq_true rfl) rfl (fun ls hl => ?_)
                  refine g_goto (tgt := 31) G dX0_part_76 rfl ?_
                  exact ih31 _ _ _ _ _ hf hM ls (lv_sub hl [1, 2, 3, 4, 0] rfl)
                obtain ⟨j59, ej59, hf⟩ := jn_open hf
                have J59 : ∀ (h5 : PH) (H : Heap) (locs : List Loc), j59 h5 = some (r, h') → PI D A cap H0 h5 H locs → ∀ ls : Array Slot, lv_has ls 5 [(0, .ref a0), (1, .int a1), (2, .int a2), (3, .int x1), (4, .int x2)] → Z H locs (cx H) (sx H) (F0 m 59 ls []) := by
                  intro h5 H locs hf hM ls hl
                  rw [ej59] at hf
                  refine g_aload_n G dX0_part_59 rfl (lv_at hl 0 rfl) ?_
                  refine g_iload_n G dX0_part_60 rfl (lv_at hl 1 rfl) ?_
                  refine g_iload_n G dX0_part_61 rfl (lv_at hl 2 rfl) ?_
                  refine g_iload G dX0_part_62 (lv_at hl 4 rfl) ?_
                  obtain ⟨b3, hf⟩ := ckc_open hf
                  obtain ⟨r3, h6, g3, hf⟩ := bnd_open hf
                  refine p_callV_r (ci := 0) (As := [.int a1, .int a2, .int x2]) (rest := []) X hM hl rfl b3 pcy_X0_areParted q1505 q1507 qs50 (kX0_areParted g3) rfl (Nat.le_of_ble_eq_true rfl) (Nat.le_of_ble_eq_true rfl) rfl dX0_part_64 (fun H locs hM => ?_)
                  refine g_if_eq (tgt := 73) G dX0_part_67 rfl (fun c6 => ?_) (fun c6 => ?_)
                  · have hf := it_pos c6 hf
                    exact J73 _ _ _ _ hf hM ls (lv_sub hl [0, 1, 2, 3, 4] rfl)
                  · have hf := it_neg c6 hf
                    refine g_iload G dX0_part_70 (lv_at hl 4 rfl) ?_
                    refine g_istore_n (i := 3) (lv' := [(3, .int x2), (0, .ref a0), (1, .int a1), (2, .int a2), (4, .int x2)]) G dX0_part_72 rfl hl (Nat.le_of_ble_eq_true rfl) rfl (fun ls hl => ?_)
                    exact J73 _ _ _ _ hf hM ls (lv_sub hl [1, 2, 3, 0, 4] rfl)
                refine g_icmp_eq (tgt := 59) G dX0_part_44 rfl (fun c7 => ?_) (fun c7 => ?_)
                · have hf := it_pos c7 hf
                  exact J59 _ _ _ hf hM ls (lv_sub hl [0, 1, 2, 3, 4] rfl)
                · have hf := it_neg c7 hf
                  refine g_iload G dX0_part_47 (lv_at hl 4 rfl) ?_
                  obtain ⟨r4, h7, g4, hf⟩ := bnd_open hf
                  refine p_callS_r (As := [.int x2]) (rest := []) X hM hl pcy_J16_bitCount q1228 q1229 (kJ16_bitCount g4) rfl (Nat.le_of_ble_eq_true rfl) (Nat.le_of_ble_eq_true rfl) rfl dX0_part_49 (fun H locs hM => ?_)
                  refine g_iload_n G dX0_part_52 rfl (lv_at hl 3 rfl) ?_
                  obtain ⟨r5, h8, g5, hf⟩ := bnd_open hf
                  refine p_callS_r (As := [.int x1]) (rest := [.int r4]) X hM hl pcy_J16_bitCount q1228 q1229 (kJ16_bitCount g5) rfl (Nat.le_of_ble_eq_true rfl) (Nat.le_of_ble_eq_true rfl) rfl dX0_part_53 (fun H locs hM => ?_)
                  refine g_icmp_ge (tgt := 73) G dX0_part_56 rfl (fun c8 => ?_) (fun c8 => ?_)
                  · have hf := it_pos c8 hf
                    exact J73 _ _ _ _ hf hM ls (lv_sub hl [0, 1, 2, 3, 4] rfl)
                  · have hf := it_neg c8 hf
                    exact J59 _ _ _ hf hM ls (lv_sub hl [0, 1, 2, 3, 4] rfl)
          exact L31 FU _ _ _ _ _ hf hM ls (lv_sub hl [2, 3, 4, 1, 0] rfl)
        · have hf := it_neg c4 hf
          refine g_iconst (v := (-1)) G dX0_part_24 rfl ?_
          exact p_iret X hM hf dX0_part_25
theorem pcy_X0_keeps : pcY yX0_keeps cX0_keeps 3 none 0 := ⟨q1520, q145, ⟨by decide +kernel, by decide +kernel, by decide +kernel⟩, Nat.le_of_ble_eq_true rfl⟩
noncomputable def fX0_keeps_L18 (a0 : Nat) (k44 : PH → Option (PH)) (s18 : Int32 → PH → Option (PH)) (x1 : Int32) (h7 : PH) : Option (PH) :=
  if (20 : Int32) ≤ x1 then
    k44 h7
  else
    vA (pF h7 a0 0 15) fun p6 =>
    vA (pF h7 a0 0 15) fun p7 =>
    ob (pLdQ h7 p7 5 x1) fun q3 =>
    qS q3 fun n3 =>
    ckc (pCls h7 n3) 5 <|
    bnv (pStQ h7 p6 5 (x1 - 1) (some n3)) fun h8 =>
    s18 (x1 + 1) h8
noncomputable def fX0_keeps (a0 : Nat) (h : PH) : Option (PH) :=
  vI (pF h a0 0 16) fun v1 =>
  jn (fun (h1 : PH) =>
    vA (pF h1 a0 0 15) fun p1 =>
    vI (pF h1 a0 0 16) fun v2 =>
    ob (pLdQ h1 p1 5 v2) fun q1 =>
    vA (pF h1 a0 0 9) fun p2 =>
    qS q1 fun n1 =>
    ckc (pCls h1 n1) 5 <|
    bnd (fX5_copy n1 p2 h1) fun p3 h2 =>
    vI (pF h2 a0 0 16) fun v3 =>
    bnv (pPut h2 a0 0 16 (.int (v3 + 1))) fun h3 =>
    some h3) fun j62 =>
  if v1 = (20 : Int32) then
    vA (pF h a0 0 15) fun p4 =>
    ob (pLdQ h p4 5 0) fun q2 =>
    jn (fun (h4 : PH) =>
      vA (pF h4 a0 0 15) fun p5 =>
      qS q2 fun n2 =>
      ckc (pCls h4 n2) 5 <|
      bnv (pStQ h4 p5 5 19 (some n2)) fun h5 =>
      vI (pF h5 a0 0 16) fun v4 =>
      bnv (pPut h5 a0 0 16 (.int (v4 - 1))) fun h6 =>
      j62 h6) fun k44 =>
    fx (fX0_keeps_L18 a0 k44) (fun _ _ => none) FU 1 h
  else
    j62 h
set_option maxHeartbeats 1000000 in
theorem kX0_keeps {l : Launch} {D : PD} {A : Nat → Prop} {cap : Nat × Nat} {a0 : Nat} {h h' : PH} (hf : fX0_keeps a0 h = some h') : CMet l D A cap yX0_keeps cX0_keeps 3 none 2 [.ref a0] h h' (none) := by
  unfold fX0_keeps at hf
  refine p_head (own := RX0) (ini := false) (pn_X0 rfl) rfl (fun q => by cases q) (Nat.le_of_ble_eq_true rfl) (fun m Z cx sx H0 ls X hM hl => ?_)
  have G := X.g
  have hl : lv_has ls 3 [(0, .ref a0)] := hl
  refine g_aload_n G dX0_keeps_0 rfl (lv_at hl 0 rfl) ?_
  obtain ⟨v1, g1, hf⟩ := vI_open hf
  refine p_get (k := 16) X hM pc_0 (by decide) q464 rfl g1 dX0_keeps_1 ?_
  refine g_bipush (v := 20) G dX0_keeps_4 rfl ?_
  obtain ⟨j62, ej62, hf⟩ := jn_open hf
  have J62 : ∀ (h1 : PH) (H : Heap) (locs : List Loc), j62 h1 = some h' → PI D A cap H0 h1 H locs → ∀ ls : Array Slot, lv_has ls 3 [(0, .ref a0)] → Z H locs (cx H) (sx H) (F0 m 62 ls []) := by
    intro h1 H locs hf hM ls hl
    rw [ej62] at hf
    refine g_aload_n G dX0_keeps_62 rfl (lv_at hl 0 rfl) ?_
    obtain ⟨p1, g2, hf⟩ := vA_open hf
    refine p_get (k := 15) X hM pc_0 (by decide) q463 rfl g2 dX0_keeps_63 ?_
    refine g_aload_n G dX0_keeps_66 rfl (lv_at hl 0 rfl) ?_
    obtain ⟨v2, g3, hf⟩ := vI_open hf
    refine p_get (k := 16) X hM pc_0 (by decide) q464 rfl g3 dX0_keeps_67 ?_
    obtain ⟨q1, g4, hf⟩ := ob_open hf
    refine p_aald X hM (kd := 5) (by decide) rfl g4 dX0_keeps_70 ?_
    refine g_aload_n G dX0_keeps_71 rfl (lv_at hl 0 rfl) ?_
    obtain ⟨p2, g5, hf⟩ := vA_open hf
    refine p_get (k := 9) X hM pc_0 (by decide) q457 rfl g5 dX0_keeps_72 ?_
    obtain ⟨n1, e1, hfq⟩ := qS_open hf
    clear hf; subst e1; have hf := hfq; clear hfq
    obtain ⟨b1, hf⟩ := ckc_open hf
    obtain ⟨p3, h2, g6, hf⟩ := bnd_open hf
    refine p_callV_r (ci := 5) (As := [.ref p2]) (rest := []) X hM hl rfl b1 pcy_X5_copy q1422 q1423 q1424 (kX5_copy g6) rfl (Nat.le_of_ble_eq_true rfl) (Nat.le_of_ble_eq_true rfl) rfl dX0_keeps_75 (fun H locs hM => ?_)
    refine g_pop G dX0_keeps_78 rfl ?_
    refine g_aload_n G dX0_keeps_79 rfl (lv_at hl 0 rfl) ?_
    refine g_dup G dX0_keeps_80 rfl ?_
    obtain ⟨v3, g7, hf⟩ := vI_open hf
    refine p_get (k := 16) X hM pc_0 (by decide) q464 rfl g7 dX0_keeps_81 ?_
    refine g_iconst (v := 1) G dX0_keeps_84 rfl ?_
    refine g_iadd G dX0_keeps_85 ?_
    obtain ⟨h3, g8, hf⟩ := bnv_open hf
    refine p_put (k := 16) X hM pc_0 (by decide) q464 rfl rfl rfl rfl g8 dX0_keeps_86 (fun H locs hM => ?_)
    exact p_vret X hM hf dX0_keeps_89
  refine g_icmp_ne (tgt := 62) G dX0_keeps_6 rfl (fun c1 => ?_) (fun c1 => ?_)
  · have hf := it_neg c1 hf
    exact J62 _ _ _ hf hM ls (lv_sub hl [0] rfl)
  · have hf := it_pos c1 hf
    refine g_aload_n G dX0_keeps_9 rfl (lv_at hl 0 rfl) ?_
    obtain ⟨p4, g9, hf⟩ := vA_open hf
    refine p_get (k := 15) X hM pc_0 (by decide) q463 rfl g9 dX0_keeps_10 ?_
    refine g_iconst (v := 0) G dX0_keeps_13 rfl ?_
    obtain ⟨q2, g10, hf⟩ := ob_open hf
    refine p_aald X hM (kd := 5) (by decide) rfl g10 dX0_keeps_14 ?_
    refine g_astore_nQ (i := 1) (lv' := [(1, va_rf q2), (0, .ref a0)]) G dX0_keeps_15 rfl hl (Nat.le_of_ble_eq_true rfl) (by simp [cat_q, cat_i, cat_l, cat_r]) (fun ls hl => ?_)
    refine g_iconst (v := 1) G dX0_keeps_16 rfl ?_
    refine g_istore_n (i := 2) (lv' := [(2, .int 1), (1, va_rf q2), (0, .ref a0)]) G dX0_keeps_17 rfl hl (Nat.le_of_ble_eq_true rfl) (by simp [cat_q, cat_i, cat_l, cat_r]) (fun ls hl => ?_)
    obtain ⟨k44, ek44, hf⟩ := jn_open hf
    have K44 : ∀ (h4 : PH) (H : Heap) (locs : List Loc), k44 h4 = some h' → PI D A cap H0 h4 H locs → ∀ ls : Array Slot, lv_has ls 3 [(0, .ref a0), (1, va_rf q2)] → Z H locs (cx H) (sx H) (F0 m 44 ls []) := by
      intro h4 H locs hf hM ls hl
      rw [ek44] at hf
      refine g_aload_n G dX0_keeps_44 rfl (lv_at hl 0 rfl) ?_
      obtain ⟨p5, g11, hf⟩ := vA_open hf
      refine p_get (k := 15) X hM pc_0 (by decide) q463 rfl g11 dX0_keeps_45 ?_
      refine g_bipush (v := 19) G dX0_keeps_48 rfl ?_
      refine g_aload_nQ G dX0_keeps_50 rfl (lv_at hl 1 rfl) ?_
      obtain ⟨n2, e2, hfq⟩ := qS_open hf
      clear hf; subst e2; have hf := hfq; clear hfq
      obtain ⟨b2, hf⟩ := ckc_open hf
      obtain ⟨h5, g12, hf⟩ := bnv_open hf
      refine p_aast X hM (kd := 5) (ci := 5) (by decide) rfl rfl b2 g12 dX0_keeps_51 (fun H locs hM => ?_)
      refine g_aload_n G dX0_keeps_52 rfl (lv_at hl 0 rfl) ?_
      refine g_dup G dX0_keeps_53 rfl ?_
      obtain ⟨v4, g13, hf⟩ := vI_open hf
      refine p_get (k := 16) X hM pc_0 (by decide) q464 rfl g13 dX0_keeps_54 ?_
      refine g_iconst (v := 1) G dX0_keeps_57 rfl ?_
      refine g_isub G dX0_keeps_58 ?_
      obtain ⟨h6, g14, hf⟩ := bnv_open hf
      refine p_put (k := 16) X hM pc_0 (by decide) q464 rfl rfl rfl rfl g14 dX0_keeps_59 (fun H locs hM => ?_)
      exact J62 _ _ _ hf hM ls (lv_sub hl [0] rfl)
    have L18 : ∀ (n : Nat) (x1 : Int32) (h7 : PH) (H : Heap) (locs : List Loc), fx (fX0_keeps_L18 a0 k44) (fun _ _ => none) n x1 h7 = some h' → PI D A cap H0 h7 H locs → ∀ ls : Array Slot, lv_has ls 3 [(0, .ref a0), (1, va_rf q2), (2, .int x1)] → Z H locs (cx H) (sx H) (F0 m 18 ls []) := by
      intro n
      induction n with
      | zero => intro x1 h7 H locs hf; exact absurd hf (by intro q; cases q)
      | succ n ih18 =>
        intro x1 h7 H locs hf hM ls hl
        rw [fx_s] at hf
        generalize fx (fX0_keeps_L18 a0 k44) (fun _ _ => none) n = s18 at hf ih18
        unfold fX0_keeps_L18 at hf
        refine g_iload_n G dX0_keeps_18 rfl (lv_at hl 2 rfl) ?_
        refine g_bipush (v := 20) G dX0_keeps_19 rfl ?_
        refine g_icmp_ge (tgt := 44) G dX0_keeps_21 rfl (fun c2 => ?_) (fun c2 => ?_)
        · have hf := it_pos c2 hf
          exact K44 _ _ _ hf hM ls (lv_sub hl [0, 1] rfl)
        · have hf := it_neg c2 hf
          refine g_aload_n G dX0_keeps_24 rfl (lv_at hl 0 rfl) ?_
          obtain ⟨p6, g15, hf⟩ := vA_open hf
          refine p_get (k := 15) X hM pc_0 (by decide) q463 rfl g15 dX0_keeps_25 ?_
          refine g_iload_n G dX0_keeps_28 rfl (lv_at hl 2 rfl) ?_
          refine g_iconst (v := 1) G dX0_keeps_29 rfl ?_
          refine g_isub G dX0_keeps_30 ?_
          refine g_aload_n G dX0_keeps_31 rfl (lv_at hl 0 rfl) ?_
          obtain ⟨p7, g16, hf⟩ := vA_open hf
          refine p_get (k := 15) X hM pc_0 (by decide) q463 rfl g16 dX0_keeps_32 ?_
          refine g_iload_n G dX0_keeps_35 rfl (lv_at hl 2 rfl) ?_
          obtain ⟨q3, g17, hf⟩ := ob_open hf
          refine p_aald X hM (kd := 5) (by decide) rfl g17 dX0_keeps_36 ?_
          obtain ⟨n3, e3, hfq⟩ := qS_open hf
          clear hf; subst e3; have hf := hfq; clear hfq
          obtain ⟨b3, hf⟩ := ckc_open hf
          obtain ⟨h8, g18, hf⟩ := bnv_open hf
          refine p_aast X hM (kd := 5) (ci := 5) (by decide) rfl rfl b3 g18 dX0_keeps_37 (fun H locs hM => ?_)
          refine g_iinc (v := x1 + 1) (lv' := [(2, .int (x1 + 1)), (0, .ref a0), (1, va_rf q2)]) G dX0_keeps_38 hl (k := 2) rfl rfl (Nat.le_of_ble_eq_true rfl) (by simp [cat_q, cat_i, cat_l, cat_r]) (fun ls hl => ?_)
          refine g_goto (tgt := 18) G dX0_keeps_41 rfl ?_
          exact ih18 _ _ _ _ hf hM ls (lv_sub hl [1, 2, 0] rfl)
    exact L18 FU _ _ _ _ hf hM ls (lv_sub hl [2, 1, 0] rfl)
theorem pcy_X0_undo : pcY yX0_undo cX0_undo 1 (Option.some Jvm.ClassFile.FieldType.boolean) 0 := ⟨q1512, q145, ⟨by decide +kernel, by decide +kernel, by decide +kernel⟩, Nat.le_of_ble_eq_true rfl⟩
noncomputable def fX0_undo (a0 : Nat) (h : PH) : Option (Bool × PH) :=
  vI (pF h a0 0 16) fun v1 =>
  if v1 = 0 then
    ckc (pCls h a0) 0 <|
    bnd (fX0_refuses a0 4 h) fun r1 h3 =>
    if r1 < 0 then
      some (false, h3)
    else
      some (true, h3)
  else
    vI (pF h a0 0 16) fun v2 =>
    bnv (pPut h a0 0 16 (.int (v2 - 1))) fun h1 =>
    vA (pF h1 a0 0 9) fun p1 =>
    vA (pF h1 a0 0 15) fun p2 =>
    vI (pF h1 a0 0 16) fun v3 =>
    ob (pLdQ h1 p2 5 v3) fun q1 =>
    qS q1 fun n1 =>
    ckc (pCls h1 p1) 5 <|
    bnd (fX5_copy p1 n1 h1) fun p3 h2 =>
    some (true, h2)
set_option maxHeartbeats 1000000 in
theorem kX0_undo {l : Launch} {D : PD} {A : Nat → Prop} {cap : Nat × Nat} {a0 : Nat} {h h' : PH} {r : Bool} (hf : fX0_undo a0 h = some (r, h')) : CMet l D A cap yX0_undo cX0_undo 1 (Option.some Jvm.ClassFile.FieldType.boolean) 2 [.ref a0] h h' (some (.int (bI r))) := by
  unfold fX0_undo at hf
  refine p_head (own := RX0) (ini := false) (pn_X0 rfl) rfl (fun q => by cases q) (Nat.le_of_ble_eq_true rfl) (fun m Z cx sx H0 ls X hM hl => ?_)
  have G := X.g
  have hl : lv_has ls 1 [(0, .ref a0)] := hl
  refine g_aload_n G dX0_undo_0 rfl (lv_at hl 0 rfl) ?_
  obtain ⟨v1, g1, hf⟩ := vI_open hf
  refine p_get (k := 16) X hM pc_0 (by decide) q464 rfl g1 dX0_undo_1 ?_
  refine g_if_ne (tgt := 21) G dX0_undo_4 rfl (fun c1 => ?_) (fun c1 => ?_)
  · have hf := it_neg c1 hf
    refine g_aload_n G dX0_undo_21 rfl (lv_at hl 0 rfl) ?_
    refine g_dup G dX0_undo_22 rfl ?_
    obtain ⟨v2, g2, hf⟩ := vI_open hf
    refine p_get (k := 16) X hM pc_0 (by decide) q464 rfl g2 dX0_undo_23 ?_
    refine g_iconst (v := 1) G dX0_undo_26 rfl ?_
    refine g_isub G dX0_undo_27 ?_
    obtain ⟨h1, g3, hf⟩ := bnv_open hf
    refine p_put (k := 16) X hM pc_0 (by decide) q464 rfl rfl rfl rfl g3 dX0_undo_28 (fun H locs hM => ?_)
    refine g_aload_n G dX0_undo_31 rfl (lv_at hl 0 rfl) ?_
    obtain ⟨p1, g4, hf⟩ := vA_open hf
    refine p_get (k := 9) X hM pc_0 (by decide) q457 rfl g4 dX0_undo_32 ?_
    refine g_aload_n G dX0_undo_35 rfl (lv_at hl 0 rfl) ?_
    obtain ⟨p2, g5, hf⟩ := vA_open hf
    refine p_get (k := 15) X hM pc_0 (by decide) q463 rfl g5 dX0_undo_36 ?_
    refine g_aload_n G dX0_undo_39 rfl (lv_at hl 0 rfl) ?_
    obtain ⟨v3, g6, hf⟩ := vI_open hf
    refine p_get (k := 16) X hM pc_0 (by decide) q464 rfl g6 dX0_undo_40 ?_
    obtain ⟨q1, g7, hf⟩ := ob_open hf
    refine p_aald X hM (kd := 5) (by decide) rfl g7 dX0_undo_43 ?_
    obtain ⟨n1, e1, hfq⟩ := qS_open hf
    clear hf; subst e1; have hf := hfq; clear hfq
    obtain ⟨b1, hf⟩ := ckc_open hf
    obtain ⟨p3, h2, g8, hf⟩ := bnd_open hf
    refine p_callV_r (ci := 5) (As := [.ref n1]) (rest := []) X hM hl rfl b1 pcy_X5_copy q1422 q1423 q1424 (kX5_copy g8) rfl (Nat.le_of_ble_eq_true rfl) (Nat.le_of_ble_eq_true rfl) rfl dX0_undo_44 (fun H locs hM => ?_)
    refine g_pop G dX0_undo_47 rfl ?_
    refine g_iconst (v := 1) G dX0_undo_48 rfl ?_
    exact p_zret X hM hf dX0_undo_49
  · have hf := it_pos c1 hf
    refine g_aload_n G dX0_undo_7 rfl (lv_at hl 0 rfl) ?_
    refine g_iconst (v := 4) G dX0_undo_8 rfl ?_
    obtain ⟨b2, hf⟩ := ckc_open hf
    obtain ⟨r1, h3, g9, hf⟩ := bnd_open hf
    refine p_callV_r (ci := 0) (As := [.int 4]) (rest := []) X hM hl rfl b2 pcy_X0_refuses q516 q518 qs1 (kX0_refuses g9) rfl (Nat.le_of_ble_eq_true rfl) (Nat.le_of_ble_eq_true rfl) rfl dX0_undo_9 (fun H locs hM => ?_)
    refine g_if_lt (tgt := 19) G dX0_undo_12 rfl (fun c2 => ?_) (fun c2 => ?_)
    · have hf := it_pos c2 hf
      refine g_iconst (v := 0) G dX0_undo_19 rfl ?_
      exact p_zret X hM hf dX0_undo_20
    · have hf := it_neg c2 hf
      refine g_iconst (v := 1) G dX0_undo_15 rfl ?_
      refine g_goto (tgt := 20) G dX0_undo_16 rfl ?_
      exact p_zret X hM hf dX0_undo_20
theorem pcy_X0_teach : pcY yX0_teach cX0_teach 3 (Option.some Jvm.ClassFile.FieldType.boolean) 2 := ⟨q1516, q145, ⟨by decide +kernel, by decide +kernel, by decide +kernel⟩, Nat.le_of_ble_eq_true rfl⟩
noncomputable def fX0_teach (a0 : Nat) (a1 : Int32) (a2 : Int32) (h : PH) : Option (Bool × PH) :=
  ckc (pCls h a0) 0 <|
  bnd (fX0_isPerson a0 a1 h) fun r1 h1 =>
  jn (fun (h2 : PH) =>
    ckc (pCls h2 a0) 0 <|
    bnd (fX0_refuses a0 2 h2) fun r2 h3 =>
    if r2 < 0 then
      some (false, h3)
    else
      some (true, h3)) fun j46 =>
  if (bI r1) = 0 then
    j46 h1
  else
    jn (fun (h4 : PH) =>
      vA (pF h4 a0 0 9) fun p1 =>
      vA (pF h4 p1 5 4) fun p2 =>
      ob (pLd h4 p2 0 a1) fun v1 =>
      if v1 = a2 then
        j46 h4
      else
        ckc (pCls h4 a0) 0 <|
        bnv (fX0_keeps a0 h4) fun h5 =>
        vA (pF h5 a0 0 9) fun p3 =>
        vA (pF h5 p3 5 4) fun p4 =>
        bnv (pSt h5 p4 0 a1 a2) fun h6 =>
        some (true, h6)) fun j33 =>
    if a2 = ((-1) : Int32) then
      j33 h1
    else
      ckc (pCls h1 a0) 0 <|
      bnd (fX0_isPerson a0 a2 h1) fun r3 h7 =>
      if (bI r3) = 0 then
        j46 h7
      else
        vA (pF h7 a0 0 9) fun p5 =>
        ckc (pCls h7 p5) 5 <|
        bnd (fX5_isBy p5 a2 a1 h7) fun r4 h8 =>
        if (bI r4) = 0 then
          j33 h8
        else
          j46 h8
set_option maxHeartbeats 1000000 in
theorem kX0_teach {l : Launch} {D : PD} {A : Nat → Prop} {cap : Nat × Nat} {a0 : Nat} {a1 : Int32} {a2 : Int32} {h h' : PH} {r : Bool} (hf : fX0_teach a0 a1 a2 h = some (r, h')) : CMet l D A cap yX0_teach cX0_teach 3 (Option.some Jvm.ClassFile.FieldType.boolean) 4 [.ref a0, .int a1, .int a2] h h' (some (.int (bI r))) := by
  unfold fX0_teach at hf
  refine p_head (own := RX0) (ini := false) (pn_X0 rfl) rfl (fun q => by cases q) (Nat.le_of_ble_eq_true rfl) (fun m Z cx sx H0 ls X hM hl => ?_)
  have G := X.g
  have hl : lv_has ls 3 [(0, .ref a0), (1, .int a1), (2, .int a2)] := hl
  refine g_aload_n G dX0_teach_0 rfl (lv_at hl 0 rfl) ?_
  refine g_iload_n G dX0_teach_1 rfl (lv_at hl 1 rfl) ?_
  obtain ⟨b1, hf⟩ := ckc_open hf
  obtain ⟨r1, h1, g1, hf⟩ := bnd_open hf
  refine p_callV_r (ci := 0) (As := [.int a1]) (rest := []) X hM hl rfl b1 pcy_X0_isPerson q1290 q1292 qs39 (kX0_isPerson g1) rfl (Nat.le_of_ble_eq_true rfl) (Nat.le_of_ble_eq_true rfl) rfl dX0_teach_2 (fun H locs hM => ?_)
  obtain ⟨j46, ej46, hf⟩ := jn_open hf
  have J46 : ∀ (h2 : PH) (H : Heap) (locs : List Loc), j46 h2 = some (r, h') → PI D A cap H0 h2 H locs → ∀ ls : Array Slot, lv_has ls 3 [(0, .ref a0)] → Z H locs (cx H) (sx H) (F0 m 46 ls []) := by
    intro h2 H locs hf hM ls hl
    rw [ej46] at hf
    refine g_aload_n G dX0_teach_46 rfl (lv_at hl 0 rfl) ?_
    refine g_iconst (v := 2) G dX0_teach_47 rfl ?_
    obtain ⟨b2, hf⟩ := ckc_open hf
    obtain ⟨r2, h3, g2, hf⟩ := bnd_open hf
    refine p_callV_r (ci := 0) (As := [.int 2]) (rest := []) X hM hl rfl b2 pcy_X0_refuses q516 q518 qs1 (kX0_refuses g2) rfl (Nat.le_of_ble_eq_true rfl) (Nat.le_of_ble_eq_true rfl) rfl dX0_teach_48 (fun H locs hM => ?_)
    refine g_if_lt (tgt := 58) G dX0_teach_51 rfl (fun c1 => ?_) (fun c1 => ?_)
    · have hf := it_pos c1 hf
      refine g_iconst (v := 0) G dX0_teach_58 rfl ?_
      exact p_zret X hM hf dX0_teach_59
    · have hf := it_neg c1 hf
      refine g_iconst (v := 1) G dX0_teach_54 rfl ?_
      refine g_goto (tgt := 59) G dX0_teach_55 rfl ?_
      exact p_zret X hM hf dX0_teach_59
  refine g_if_eq (tgt := 46) G dX0_teach_5 rfl (fun c2 => ?_) (fun c2 => ?_)
  · have hf := it_pos c2 hf
    exact J46 _ _ _ hf hM ls (lv_sub hl [0] rfl)
  · have hf := it_neg c2 hf
    refine g_iload_n G dX0_teach_8 rfl (lv_at hl 2 rfl) ?_
    refine g_iconst (v := (-1)) G dX0_teach_9 rfl ?_
    obtain ⟨j33, ej33, hf⟩ := jn_open hf
    have J33 : ∀ (h4 : PH) (H : Heap) (locs : List Loc), j33 h4 = some (r, h') → PI D A cap H0 h4 H locs → ∀ ls : Array Slot, lv_has ls 3 [(0, .ref a0), (1, .int a1), (2, .int a2)] → Z H locs (cx H) (sx H) (F0 m 33 ls []) := by
      intro h4 H locs hf hM ls hl
      rw [ej33] at hf
      refine g_aload_n G dX0_teach_33 rfl (lv_at hl 0 rfl) ?_
      obtain ⟨p1, g3, hf⟩ := vA_open hf
      refine p_get (k := 9) X hM pc_0 (by decide) q457 rfl g3 dX0_teach_34 ?_
      obtain ⟨p2, g4, hf⟩ := vA_open hf
      refine p_getN (k := 4) X hM pc_5 (by decide) q405 rfl g4 dX0_teach_37 ?_
      refine g_iload_n G dX0_teach_40 rfl (lv_at hl 1 rfl) ?_
      obtain ⟨v1, g5, hf⟩ := ob_open hf
      refine p_iald X hM g5 dX0_teach_41 ?_
      refine g_iload_n G dX0_teach_42 rfl (lv_at hl 2 rfl) ?_
      refine g_icmp_ne (tgt := 60) G dX0_teach_43 rfl (fun c3 => ?_) (fun c3 => ?_)
      · have hf := it_neg c3 hf
        refine g_aload_n G dX0_teach_60 rfl (lv_at hl 0 rfl) ?_
        obtain ⟨b3, hf⟩ := ckc_open hf
        obtain ⟨h5, g6, hf⟩ := bnv_open hf
        refine p_callV_v (ci := 0) (As := []) (rest := []) X hM hl rfl b3 pcy_X0_keeps q1517 q1519 qs51 (kX0_keeps g6) rfl (Nat.le_of_ble_eq_true rfl) (Nat.le_of_ble_eq_true rfl) rfl dX0_teach_61 (fun H locs hM => ?_)
        refine g_aload_n G dX0_teach_64 rfl (lv_at hl 0 rfl) ?_
        obtain ⟨p3, g7, hf⟩ := vA_open hf
        refine p_get (k := 9) X hM pc_0 (by decide) q457 rfl g7 dX0_teach_65 ?_
        obtain ⟨p4, g8, hf⟩ := vA_open hf
        refine p_getN (k := 4) X hM pc_5 (by decide) q405 rfl g8 dX0_teach_68 ?_
        refine g_iload_n G dX0_teach_71 rfl (lv_at hl 1 rfl) ?_
        refine g_iload_n G dX0_teach_72 rfl (lv_at hl 2 rfl) ?_
        obtain ⟨h6, g9, hf⟩ := bnv_open hf
        refine p_iast X hM g9 dX0_teach_73 (fun H locs hM => ?_)
        refine g_iconst (v := 1) G dX0_teach_74 rfl ?_
        exact p_zret X hM hf dX0_teach_75
      · have hf := it_pos c3 hf
        exact J46 _ _ _ hf hM ls (lv_sub hl [0] rfl)
    refine g_icmp_eq (tgt := 33) G dX0_teach_10 rfl (fun c4 => ?_) (fun c4 => ?_)
    · have hf := it_pos c4 hf
      exact J33 _ _ _ hf hM ls (lv_sub hl [0, 1, 2] rfl)
    · have hf := it_neg c4 hf
      refine g_aload_n G dX0_teach_13 rfl (lv_at hl 0 rfl) ?_
      refine g_iload_n G dX0_teach_14 rfl (lv_at hl 2 rfl) ?_
      obtain ⟨b4, hf⟩ := ckc_open hf
      obtain ⟨r3, h7, g10, hf⟩ := bnd_open hf
      refine p_callV_r (ci := 0) (As := [.int a2]) (rest := []) X hM hl rfl b4 pcy_X0_isPerson q1290 q1292 qs39 (kX0_isPerson g10) rfl (Nat.le_of_ble_eq_true rfl) (Nat.le_of_ble_eq_true rfl) rfl dX0_teach_15 (fun H locs hM => ?_)
      refine g_if_eq (tgt := 46) G dX0_teach_18 rfl (fun c5 => ?_) (fun c5 => ?_)
      · have hf := it_pos c5 hf
        exact J46 _ _ _ hf hM ls (lv_sub hl [0] rfl)
      · have hf := it_neg c5 hf
        refine g_aload_n G dX0_teach_21 rfl (lv_at hl 0 rfl) ?_
        obtain ⟨p5, g11, hf⟩ := vA_open hf
        refine p_get (k := 9) X hM pc_0 (by decide) q457 rfl g11 dX0_teach_22 ?_
        refine g_iload_n G dX0_teach_25 rfl (lv_at hl 2 rfl) ?_
        refine g_iload_n G dX0_teach_26 rfl (lv_at hl 1 rfl) ?_
        obtain ⟨b5, hf⟩ := ckc_open hf
        obtain ⟨r4, h8, g12, hf⟩ := bnd_open hf
        refine p_callV_r (ci := 5) (As := [.int a2, .int a1]) (rest := []) X hM hl rfl b5 pcy_X5_isBy q1460 q1461 q1462 (kX5_isBy g12) rfl (Nat.le_of_ble_eq_true rfl) (Nat.le_of_ble_eq_true rfl) rfl dX0_teach_27 (fun H locs hM => ?_)
        refine g_if_ne (tgt := 46) G dX0_teach_30 rfl (fun c6 => ?_) (fun c6 => ?_)
        · have hf := it_neg c6 hf
          exact J46 _ _ _ hf hM ls (lv_sub hl [0] rfl)
        · have hf := it_pos c6 hf
          exact J33 _ _ _ hf hM ls (lv_sub hl [0, 1, 2] rfl)
theorem pcy_X0_tell : pcY yX0_tell cX0_tell 3 (Option.some Jvm.ClassFile.FieldType.boolean) 2 := ⟨q1524, q145, ⟨by decide +kernel, by decide +kernel, by decide +kernel⟩, Nat.le_of_ble_eq_true rfl⟩
noncomputable def fX0_tell (a0 : Nat) (a1 : Int32) (a2 : Int32) (h : PH) : Option (Bool × PH) :=
  ckc (pCls h a0) 0 <|
  bnd (fX0_isPerson a0 a1 h) fun r1 h1 =>
  jn (fun (h2 : PH) =>
    ckc (pCls h2 a0) 0 <|
    bnd (fX0_refuses a0 2 h2) fun r2 h3 =>
    if r2 < 0 then
      some (false, h3)
    else
      some (true, h3)) fun j32 =>
  if (bI r1) = 0 then
    j32 h1
  else
    ckc (pCls h1 a0) 0 <|
    bnd (fX0_isFact a0 a2 h1) fun r3 h4 =>
    if (bI r3) = 0 then
      j32 h4
    else
      vA (pF h4 a0 0 9) fun p1 =>
      vA (pF h4 p1 5 5) fun p2 =>
      ob (pLd h4 p2 0 a1) fun v1 =>
      bnd (fX0_has v1 a2 h4) fun r4 h5 =>
      if (bI r4) = 0 then
        ckc (pCls h5 a0) 0 <|
        bnv (fX0_keeps a0 h5) fun h6 =>
        vA (pF h6 a0 0 9) fun p3 =>
        ckc (pCls h6 p3) 5 <|
        bnv (fX5_hears p3 a1 a2 h6) fun h7 =>
        some (true, h7)
      else
        j32 h5
set_option maxHeartbeats 1000000 in
theorem kX0_tell {l : Launch} {D : PD} {A : Nat → Prop} {cap : Nat × Nat} {a0 : Nat} {a1 : Int32} {a2 : Int32} {h h' : PH} {r : Bool} (hf : fX0_tell a0 a1 a2 h = some (r, h')) : CMet l D A cap yX0_tell cX0_tell 3 (Option.some Jvm.ClassFile.FieldType.boolean) 4 [.ref a0, .int a1, .int a2] h h' (some (.int (bI r))) := by
  unfold fX0_tell at hf
  refine p_head (own := RX0) (ini := false) (pn_X0 rfl) rfl (fun q => by cases q) (Nat.le_of_ble_eq_true rfl) (fun m Z cx sx H0 ls X hM hl => ?_)
  have G := X.g
  have hl : lv_has ls 3 [(0, .ref a0), (1, .int a1), (2, .int a2)] := hl
  refine g_aload_n G dX0_tell_0 rfl (lv_at hl 0 rfl) ?_
  refine g_iload_n G dX0_tell_1 rfl (lv_at hl 1 rfl) ?_
  obtain ⟨b1, hf⟩ := ckc_open hf
  obtain ⟨r1, h1, g1, hf⟩ := bnd_open hf
  refine p_callV_r (ci := 0) (As := [.int a1]) (rest := []) X hM hl rfl b1 pcy_X0_isPerson q1290 q1292 qs39 (kX0_isPerson g1) rfl (Nat.le_of_ble_eq_true rfl) (Nat.le_of_ble_eq_true rfl) rfl dX0_tell_2 (fun H locs hM => ?_)
  obtain ⟨j32, ej32, hf⟩ := jn_open hf
  have J32 : ∀ (h2 : PH) (H : Heap) (locs : List Loc), j32 h2 = some (r, h') → PI D A cap H0 h2 H locs → ∀ ls : Array Slot, lv_has ls 3 [(0, .ref a0)] → Z H locs (cx H) (sx H) (F0 m 32 ls []) := by
    intro h2 H locs hf hM ls hl
    rw [ej32] at hf
    refine g_aload_n G dX0_tell_32 rfl (lv_at hl 0 rfl) ?_
    refine g_iconst (v := 2) G dX0_tell_33 rfl ?_
    obtain ⟨b2, hf⟩ := ckc_open hf
    obtain ⟨r2, h3, g2, hf⟩ := bnd_open hf
    refine p_callV_r (ci := 0) (As := [.int 2]) (rest := []) X hM hl rfl b2 pcy_X0_refuses q516 q518 qs1 (kX0_refuses g2) rfl (Nat.le_of_ble_eq_true rfl) (Nat.le_of_ble_eq_true rfl) rfl dX0_tell_34 (fun H locs hM => ?_)
    refine g_if_lt (tgt := 44) G dX0_tell_37 rfl (fun c1 => ?_) (fun c1 => ?_)
    · have hf := it_pos c1 hf
      refine g_iconst (v := 0) G dX0_tell_44 rfl ?_
      exact p_zret X hM hf dX0_tell_45
    · have hf := it_neg c1 hf
      refine g_iconst (v := 1) G dX0_tell_40 rfl ?_
      refine g_goto (tgt := 45) G dX0_tell_41 rfl ?_
      exact p_zret X hM hf dX0_tell_45
  refine g_if_eq (tgt := 32) G dX0_tell_5 rfl (fun c2 => ?_) (fun c2 => ?_)
  · have hf := it_pos c2 hf
    exact J32 _ _ _ hf hM ls (lv_sub hl [0] rfl)
  · have hf := it_neg c2 hf
    refine g_aload_n G dX0_tell_8 rfl (lv_at hl 0 rfl) ?_
    refine g_iload_n G dX0_tell_9 rfl (lv_at hl 2 rfl) ?_
    obtain ⟨b3, hf⟩ := ckc_open hf
    obtain ⟨r3, h4, g3, hf⟩ := bnd_open hf
    refine p_callV_r (ci := 0) (As := [.int a2]) (rest := []) X hM hl rfl b3 pcy_X0_isFact q1269 q1271 qs36 (kX0_isFact g3) rfl (Nat.le_of_ble_eq_true rfl) (Nat.le_of_ble_eq_true rfl) rfl dX0_tell_10 (fun H locs hM => ?_)
    refine g_if_eq (tgt := 32) G dX0_tell_13 rfl (fun c3 => ?_) (fun c3 => ?_)
    · have hf := it_pos c3 hf
      exact J32 _ _ _ hf hM ls (lv_sub hl [0] rfl)
    · have hf := it_neg c3 hf
      refine g_aload_n G dX0_tell_16 rfl (lv_at hl 0 rfl) ?_
      obtain ⟨p1, g4, hf⟩ := vA_open hf
      refine p_get (k := 9) X hM pc_0 (by decide) q457 rfl g4 dX0_tell_17 ?_
      obtain ⟨p2, g5, hf⟩ := vA_open hf
      refine p_getN (k := 5) X hM pc_5 (by decide) q407 rfl g5 dX0_tell_20 ?_
      refine g_iload_n G dX0_tell_23 rfl (lv_at hl 1 rfl) ?_
      obtain ⟨v1, g6, hf⟩ := ob_open hf
      refine p_iald X hM g6 dX0_tell_24 ?_
      refine g_iload_n G dX0_tell_25 rfl (lv_at hl 2 rfl) ?_
      obtain ⟨r4, h5, g7, hf⟩ := bnd_open hf
      refine p_callS_r (As := [.int v1, .int a2]) (rest := []) X hM hl pcy_X0_has q1302 q914 (kX0_has g7) rfl (Nat.le_of_ble_eq_true rfl) (Nat.le_of_ble_eq_true rfl) rfl dX0_tell_26 (fun H locs hM => ?_)
      refine g_if_eq (tgt := 46) G dX0_tell_29 rfl (fun c4 => ?_) (fun c4 => ?_)
      · have hf := it_pos c4 hf
        refine g_aload_n G dX0_tell_46 rfl (lv_at hl 0 rfl) ?_
        obtain ⟨b4, hf⟩ := ckc_open hf
        obtain ⟨h6, g8, hf⟩ := bnv_open hf
        refine p_callV_v (ci := 0) (As := []) (rest := []) X hM hl rfl b4 pcy_X0_keeps q1517 q1519 qs51 (kX0_keeps g8) rfl (Nat.le_of_ble_eq_true rfl) (Nat.le_of_ble_eq_true rfl) rfl dX0_tell_47 (fun H locs hM => ?_)
        refine g_aload_n G dX0_tell_50 rfl (lv_at hl 0 rfl) ?_
        obtain ⟨p3, g9, hf⟩ := vA_open hf
        refine p_get (k := 9) X hM pc_0 (by decide) q457 rfl g9 dX0_tell_51 ?_
        refine g_iload_n G dX0_tell_54 rfl (lv_at hl 1 rfl) ?_
        refine g_iload_n G dX0_tell_55 rfl (lv_at hl 2 rfl) ?_
        obtain ⟨b5, hf⟩ := ckc_open hf
        obtain ⟨h7, g10, hf⟩ := bnv_open hf
        refine p_callV_v (ci := 5) (As := [.int a1, .int a2]) (rest := []) X hM hl rfl b5 pcy_X5_hears q1468 q1469 q1470 (kX5_hears g10) rfl (Nat.le_of_ble_eq_true rfl) (Nat.le_of_ble_eq_true rfl) rfl dX0_tell_56 (fun H locs hM => ?_)
        refine g_iconst (v := 1) G dX0_tell_59 rfl ?_
        exact p_zret X hM hf dX0_tell_60
      · have hf := it_neg c4 hf
        exact J32 _ _ _ hf hM ls (lv_sub hl [0] rfl)
theorem pcy_X0_years : pcY yX0_years cX0_years 4 (Option.some Jvm.ClassFile.FieldType.int) 1 := ⟨q1528, q145, ⟨by decide +kernel, by decide +kernel, by decide +kernel⟩, Nat.le_of_ble_eq_true rfl⟩
noncomputable def fX0_years_L25 (D : PD) (a0 : Nat) (a1 : Int32) (s25 : Int32 → Int32 → PH → Option (Int32 × PH)) (x1 : Int32) (x2 : Int32) (h3 : PH) : Option (Int32 × PH) :=
  if a1 ≤ x2 then
    some (x1, h3)
  else
    vA (pF h3 a0 0 9) fun p1 =>
    ckc (pCls h3 p1) 5 <|
    bnd (fX5_passes D p1 0 h3) fun r2 h4 =>
    bnd (fJ16_bitCount r2 h4) fun r3 h5 =>
    s25 (x1 + r3) (x2 + 1) h5
noncomputable def fX0_years (D : PD) (a0 : Nat) (a1 : Int32) (h : PH) : Option (Int32 × PH) :=
  ckc (pCls h a0) 0 <|
  bnd (fX0_isAhead a0 a1 1 100 h) fun r1 h1 =>
  if (bI r1) = 0 then
    ckc (pCls h1 a0) 0 <|
    bnd (fX0_refuses a0 3 h1) fun r4 h6 =>
    some (r4, h6)
  else
    ckc (pCls h1 a0) 0 <|
    bnv (fX0_keeps a0 h1) fun h2 =>
    fx (fX0_years_L25 D a0 a1) (fun _ _ _ => none) FU 0 0 h2
set_option maxHeartbeats 1000000 in
theorem kX0_years {l : Launch} {D : PD} {A : Nat → Prop} {cap : Nat × Nat} {a0 : Nat} {a1 : Int32} {h h' : PH} {r : Int32} (hf : fX0_years D a0 a1 h = some (r, h')) : CMet l D A cap yX0_years cX0_years 4 (Option.some Jvm.ClassFile.FieldType.int) 99 [.ref a0, .int a1] h h' (some (.int r)) := by
  unfold fX0_years at hf
  refine p_head (own := RX0) (ini := false) (pn_X0 rfl) rfl (fun q => by cases q) (Nat.le_of_ble_eq_true rfl) (fun m Z cx sx H0 ls X hM hl => ?_)
  have G := X.g
  have hl : lv_has ls 4 [(0, .ref a0), (1, .int a1)] := hl
  refine g_aload_n G dX0_years_0 rfl (lv_at hl 0 rfl) ?_
  refine g_iload_n G dX0_years_1 rfl (lv_at hl 1 rfl) ?_
  refine g_iconst (v := 1) G dX0_years_2 rfl ?_
  refine g_bipush (v := 100) G dX0_years_3 rfl ?_
  obtain ⟨b1, hf⟩ := ckc_open hf
  obtain ⟨r1, h1, g1, hf⟩ := bnd_open hf
  refine p_callV_r (ci := 0) (As := [.int a1, .int 1, .int 100]) (rest := []) X hM hl rfl b1 pcy_X0_isAhead q1418 q1420 qs43 (kX0_isAhead g1) rfl (Nat.le_of_ble_eq_true rfl) (Nat.le_of_ble_eq_true rfl) rfl dX0_years_5 (fun H locs hM => ?_)
  refine g_if_ne (tgt := 17) G dX0_years_8 rfl (fun c1 => ?_) (fun c1 => ?_)
  · have hf := it_neg c1 hf
    refine g_aload_n G dX0_years_17 rfl (lv_at hl 0 rfl) ?_
    obtain ⟨b2, hf⟩ := ckc_open hf
    obtain ⟨h2, g2, hf⟩ := bnv_open hf
    refine p_callV_v (ci := 0) (As := []) (rest := []) X hM hl rfl b2 pcy_X0_keeps q1517 q1519 qs51 (kX0_keeps g2) rfl (Nat.le_of_ble_eq_true rfl) (Nat.le_of_ble_eq_true rfl) rfl dX0_years_18 (fun H locs hM => ?_)
    refine g_iconst (v := 0) G dX0_years_21 rfl ?_
    refine g_istore_n (i := 2) (lv' := [(2, .int 0), (0, .ref a0), (1, .int a1)]) G dX0_years_22 rfl hl (Nat.le_of_ble_eq_true rfl) rfl (fun ls hl => ?_)
    refine g_iconst (v := 0) G dX0_years_23 rfl ?_
    refine g_istore_n (i := 3) (lv' := [(3, .int 0), (2, .int 0), (0, .ref a0), (1, .int a1)]) G dX0_years_24 rfl hl (Nat.le_of_ble_eq_true rfl) rfl (fun ls hl => ?_)
    have L25 : ∀ (n : Nat) (x1 : Int32) (x2 : Int32) (h3 : PH) (H : Heap) (locs : List Loc), fx (fX0_years_L25 D a0 a1) (fun _ _ _ => none) n x1 x2 h3 = some (r, h') → PI D A cap H0 h3 H locs → ∀ ls : Array Slot, lv_has ls 4 [(0, .ref a0), (1, .int a1), (2, .int x1), (3, .int x2)] → Z H locs (cx H) (sx H) (F0 m 25 ls []) := by
      intro n
      induction n with
      | zero => intro x1 x2 h3 H locs hf; exact absurd hf (by intro q; cases q)
      | succ n ih25 =>
        intro x1 x2 h3 H locs hf hM ls hl
        rw [fx_s] at hf
        generalize fx (fX0_years_L25 D a0 a1) (fun _ _ _ => none) n = s25 at hf ih25
        unfold fX0_years_L25 at hf
        refine g_iload_n G dX0_years_25 rfl (lv_at hl 3 rfl) ?_
        refine g_iload_n G dX0_years_26 rfl (lv_at hl 1 rfl) ?_
        refine g_icmp_ge (tgt := 50) G dX0_years_27 rfl (fun c2 => ?_) (fun c2 => ?_)
        · have hf := it_pos c2 hf
          refine g_iload_n G dX0_years_50 rfl (lv_at hl 2 rfl) ?_
          exact p_iret X hM hf dX0_years_51
        · have hf := it_neg c2 hf
          refine g_iload_n G dX0_years_30 rfl (lv_at hl 2 rfl) ?_
          refine g_aload_n G dX0_years_31 rfl (lv_at hl 0 rfl) ?_
          obtain ⟨p1, g3, hf⟩ := vA_open hf
          refine p_get (k := 9) X hM pc_0 (by decide) q457 rfl g3 dX0_years_32 ?_
          refine g_iconst (v := 0) G dX0_years_35 rfl ?_
          obtain ⟨b3, hf⟩ := ckc_open hf
          obtain ⟨r2, h4, g4, hf⟩ := bnd_open hf
          refine p_callV_r (ci := 5) (As := [.int 0]) (rest := [.int x1]) X hM hl rfl b3 pcy_X5_passes q1529 q1431 q1432 (kX5_passes g4) rfl (Nat.le_of_ble_eq_true rfl) (Nat.le_of_ble_eq_true rfl) rfl dX0_years_36 (fun H locs hM => ?_)
          obtain ⟨r3, h5, g5, hf⟩ := bnd_open hf
          refine p_callS_r (As := [.int r2]) (rest := [.int x1]) X hM hl pcy_J16_bitCount q1228 q1229 (kJ16_bitCount g5) rfl (Nat.le_of_ble_eq_true rfl) (Nat.le_of_ble_eq_true rfl) rfl dX0_years_39 (fun H locs hM => ?_)
          refine g_iadd G dX0_years_42 ?_
          refine g_istore_n (i := 2) (lv' := [(2, .int (x1 + r3)), (0, .ref a0), (1, .int a1), (3, .int x2)]) G dX0_years_43 rfl hl (Nat.le_of_ble_eq_true rfl) rfl (fun ls hl => ?_)
          refine g_iinc (v := x2 + 1) (lv' := [(3, .int (x2 + 1)), (2, .int (x1 + r3)), (0, .ref a0), (1, .int a1)]) G dX0_years_44 hl (k := 3) rfl rfl (Nat.le_of_ble_eq_true rfl) rfl (fun ls hl => ?_)
          refine g_goto (tgt := 25) G dX0_years_47 rfl ?_
          exact ih25 _ _ _ _ _ hf hM ls (lv_sub hl [2, 3, 1, 0] rfl)
    exact L25 FU _ _ _ _ _ hf hM ls (lv_sub hl [2, 3, 1, 0] rfl)
  · have hf := it_pos c1 hf
    refine g_aload_n G dX0_years_11 rfl (lv_at hl 0 rfl) ?_
    refine g_iconst (v := 3) G dX0_years_12 rfl ?_
    obtain ⟨b4, hf⟩ := ckc_open hf
    obtain ⟨r4, h6, g6, hf⟩ := bnd_open hf
    refine p_callV_r (ci := 0) (As := [.int 3]) (rest := []) X hM hl rfl b4 pcy_X0_refuses q516 q518 qs1 (kX0_refuses g6) rfl (Nat.le_of_ble_eq_true rfl) (Nat.le_of_ble_eq_true rfl) rfl dX0_years_13 (fun H locs hM => ?_)
    exact p_iret X hM hf dX0_years_16
theorem pcy_X0_draw : pcY yX0_draw cX0_draw 2 (Option.some Jvm.ClassFile.FieldType.int) 1 := ⟨q1537, q145, ⟨by decide +kernel, by decide +kernel, by decide +kernel⟩, Nat.le_of_ble_eq_true rfl⟩
noncomputable def fX0_draw (a0 : Nat) (a1 : Int32) (h : PH) : Option (Int32 × PH) :=
  vJ (pF h a0 0 17) fun v1 =>
  bnv (pPut h a0 0 17 (.long ((((1103515245 : Int64) * v1) + 12345) - (((1103515245 : Int64) * v1) + 12345) / 2147483648 * 2147483648))) fun h1 =>
  vJ (pF h1 a0 0 17) fun v2 =>
  ck (!decide ((Int32.toInt64 a1) = 0)) <|
  some ((Int64.toInt32 ((v2 / 64) - (v2 / 64) / (Int32.toInt64 a1) * (Int32.toInt64 a1))), h1)
set_option maxHeartbeats 1000000 in
theorem kX0_draw {l : Launch} {D : PD} {A : Nat → Prop} {cap : Nat × Nat} {a0 : Nat} {a1 : Int32} {h h' : PH} {r : Int32} (hf : fX0_draw a0 a1 h = some (r, h')) : CMet l D A cap yX0_draw cX0_draw 2 (Option.some Jvm.ClassFile.FieldType.int) 1 [.ref a0, .int a1] h h' (some (.int r)) := by
  unfold fX0_draw at hf
  refine p_head (own := RX0) (ini := false) (pn_X0 rfl) rfl (fun q => by cases q) (Nat.le_of_ble_eq_true rfl) (fun m Z cx sx H0 ls X hM hl => ?_)
  have G := X.g
  have hl : lv_has ls 2 [(0, .ref a0), (1, .int a1)] := hl
  refine g_aload_n G dX0_draw_0 rfl (lv_at hl 0 rfl) ?_
  refine g_ldc2 G q1538 dX0_draw_1 ?_
  refine g_aload_n G dX0_draw_4 rfl (lv_at hl 0 rfl) ?_
  obtain ⟨v1, g1, hf⟩ := vJ_open hf
  refine p_get (k := 17) X hM pc_0 (by decide) q465 rfl g1 dX0_draw_5 ?_
  refine g_lmul G dX0_draw_8 ?_
  refine g_ldc2 G q1539 dX0_draw_9 ?_
  refine g_ladd G dX0_draw_12 ?_
  refine g_ldc2 G q1540 dX0_draw_13 ?_
  refine g_lrem G dX0_draw_16 (by decide) ?_
  obtain ⟨h1, g2, hf⟩ := bnv_open hf
  refine p_put (k := 17) X hM pc_0 (by decide) q465 rfl rfl rfl rfl g2 dX0_draw_17 (fun H locs hM => ?_)
  refine g_aload_n G dX0_draw_20 rfl (lv_at hl 0 rfl) ?_
  obtain ⟨v2, g3, hf⟩ := vJ_open hf
  refine p_get (k := 17) X hM pc_0 (by decide) q465 rfl g3 dX0_draw_21 ?_
  refine g_ldc2 G q1541 dX0_draw_24 ?_
  refine g_ldiv G dX0_draw_27 (by decide) ?_
  refine g_iload_n G dX0_draw_28 rfl (lv_at hl 1 rfl) ?_
  refine g_i2l (v := Int32.toInt64 a1) G dX0_draw_29 rfl ?_
  obtain ⟨b1, hf⟩ := ck_open hf
  refine g_lrem G dX0_draw_30 (by simpa using b1) ?_
  refine g_l2i (v := Int64.toInt32 ((v2 / 64) - (v2 / 64) / (Int32.toInt64 a1) * (Int32.toInt64 a1))) G dX0_draw_31 rfl ?_
  exact p_iret X hM hf dX0_draw_32
theorem pcy_X0_chance : pcY yX0_chance cX0_chance 6 (Option.some Jvm.ClassFile.FieldType.int) 1 := ⟨q1533, q145, ⟨by decide +kernel, by decide +kernel, by decide +kernel⟩, Nat.le_of_ble_eq_true rfl⟩
noncomputable def fX0_chance_L36 (a0 : Nat) (k80 : Int32 → PH → Option (Int32 × PH)) (s36 : Int32 → Int32 → PH → Option (Int32 × PH)) (x4 : Int32) (x5 : Int32) (h7 : PH) : Option (Int32 × PH) :=
  ckc (pCls h7 a0) 0 <|
  bnd (fX0_people a0 h7) fun r4 h8 =>
  if r4 ≤ x5 then
    k80 x4 h8
  else
    ckc (pCls h8 a0) 0 <|
    bnd (fX0_draw a0 100 h8) fun r5 h9 =>
    vA (pF h9 a0 0 0) fun p2 =>
    vI (pF h9 p2 1 3) fun v1 =>
    jn (fun (x6 : Int32) (h10 : PH) =>
      s36 (x4 ||| x6) (x5 + 1) h10) fun j71 =>
    if v1 ≤ r5 then
      j71 0 h9
    else
      j71 ((1 : Int32) <<< (x5 &&& 31)) h9
noncomputable def fX0_chance_L25 (D : PD) (a0 : Nat) (a1 : Int32) (s25 : Int32 → Int32 → PH → Option (Int32 × PH)) (x1 : Int32) (x2 : Int32) (h3 : PH) : Option (Int32 × PH) :=
  if a1 ≤ x2 then
    some (x1, h3)
  else
    jn (fun (x3 : Int32) (h4 : PH) =>
      bnd (fJ16_bitCount x3 h4) fun r2 h5 =>
      vA (pF h5 a0 0 9) fun p1 =>
      ckc (pCls h5 p1) 5 <|
      bnd (fX5_passes D p1 x3 h5) fun r3 h6 =>
      s25 (x1 + r2) (x2 + 1) h6) fun k80 =>
    fx (fX0_chance_L36 a0 k80) (fun _ _ _ => none) FU 0 0 h3
noncomputable def fX0_chance (D : PD) (a0 : Nat) (a1 : Int32) (h : PH) : Option (Int32 × PH) :=
  ckc (pCls h a0) 0 <|
  bnd (fX0_isAhead a0 a1 1 100 h) fun r1 h1 =>
  if (bI r1) = 0 then
    ckc (pCls h1 a0) 0 <|
    bnd (fX0_refuses a0 3 h1) fun r6 h11 =>
    some (r6, h11)
  else
    ckc (pCls h1 a0) 0 <|
    bnv (fX0_keeps a0 h1) fun h2 =>
    fx (fX0_chance_L25 D a0 a1) (fun _ _ _ => none) FU 0 0 h2
set_option maxHeartbeats 1000000 in
theorem kX0_chance {l : Launch} {D : PD} {A : Nat → Prop} {cap : Nat × Nat} {a0 : Nat} {a1 : Int32} {h h' : PH} {r : Int32} (hf : fX0_chance D a0 a1 h = some (r, h')) : CMet l D A cap yX0_chance cX0_chance 6 (Option.some Jvm.ClassFile.FieldType.int) 99 [.ref a0, .int a1] h h' (some (.int r)) := by
  unfold fX0_chance at hf
  refine p_head (own := RX0) (ini := false) (pn_X0 rfl) rfl (fun q => by cases q) (Nat.le_of_ble_eq_true rfl) (fun m Z cx sx H0 ls X hM hl => ?_)
  have G := X.g
  have hl : lv_has ls 6 [(0, .ref a0), (1, .int a1)] := hl
  refine g_aload_n G dX0_chance_0 rfl (lv_at hl 0 rfl) ?_
  refine g_iload_n G dX0_chance_1 rfl (lv_at hl 1 rfl) ?_
  refine g_iconst (v := 1) G dX0_chance_2 rfl ?_
  refine g_bipush (v := 100) G dX0_chance_3 rfl ?_
  obtain ⟨b1, hf⟩ := ckc_open hf
  obtain ⟨r1, h1, g1, hf⟩ := bnd_open hf
  refine p_callV_r (ci := 0) (As := [.int a1, .int 1, .int 100]) (rest := []) X hM hl rfl b1 pcy_X0_isAhead q1418 q1420 qs43 (kX0_isAhead g1) rfl (Nat.le_of_ble_eq_true rfl) (Nat.le_of_ble_eq_true rfl) rfl dX0_chance_5 (fun H locs hM => ?_)
  refine g_if_ne (tgt := 17) G dX0_chance_8 rfl (fun c1 => ?_) (fun c1 => ?_)
  · have hf := it_neg c1 hf
    refine g_aload_n G dX0_chance_17 rfl (lv_at hl 0 rfl) ?_
    obtain ⟨b2, hf⟩ := ckc_open hf
    obtain ⟨h2, g2, hf⟩ := bnv_open hf
    refine p_callV_v (ci := 0) (As := []) (rest := []) X hM hl rfl b2 pcy_X0_keeps q1517 q1519 qs51 (kX0_keeps g2) rfl (Nat.le_of_ble_eq_true rfl) (Nat.le_of_ble_eq_true rfl) rfl dX0_chance_18 (fun H locs hM => ?_)
    refine g_iconst (v := 0) G dX0_chance_21 rfl ?_
    refine g_istore_n (i := 2) (lv' := [(2, .int 0), (0, .ref a0), (1, .int a1)]) G dX0_chance_22 rfl hl (Nat.le_of_ble_eq_true rfl) rfl (fun ls hl => ?_)
    refine g_iconst (v := 0) G dX0_chance_23 rfl ?_
    refine g_istore_n (i := 3) (lv' := [(3, .int 0), (2, .int 0), (0, .ref a0), (1, .int a1)]) G dX0_chance_24 rfl hl (Nat.le_of_ble_eq_true rfl) rfl (fun ls hl => ?_)
    have L25 : ∀ (n : Nat) (x1 : Int32) (x2 : Int32) (h3 : PH) (H : Heap) (locs : List Loc), fx (fX0_chance_L25 D a0 a1) (fun _ _ _ => none) n x1 x2 h3 = some (r, h') → PI D A cap H0 h3 H locs → ∀ ls : Array Slot, lv_has ls 6 [(0, .ref a0), (1, .int a1), (2, .int x1), (3, .int x2)] → Z H locs (cx H) (sx H) (F0 m 25 ls []) := by
      intro n
      induction n with
      | zero => intro x1 x2 h3 H locs hf; exact absurd hf (by intro q; cases q)
      | succ n ih25 =>
        intro x1 x2 h3 H locs hf hM ls hl
        rw [fx_s] at hf
        generalize fx (fX0_chance_L25 D a0 a1) (fun _ _ _ => none) n = s25 at hf ih25
        unfold fX0_chance_L25 at hf
        refine g_iload_n G dX0_chance_25 rfl (lv_at hl 3 rfl) ?_
        refine g_iload_n G dX0_chance_26 rfl (lv_at hl 1 rfl) ?_
        refine g_icmp_ge (tgt := 104) G dX0_chance_27 rfl (fun c2 => ?_) (fun c2 => ?_)
        · have hf := it_pos c2 hf
          refine g_iload_n G dX0_chance_104 rfl (lv_at hl 2 rfl) ?_
          exact p_iret X hM hf dX0_chance_105
        · have hf := it_neg c2 hf
          refine g_iconst (v := 0) G dX0_chance_30 rfl ?_
          refine g_istore (lv' := [(4, .int 0), (0, .ref a0), (1, .int a1), (2, .int x1), (3, .int x2)]) G dX0_chance_31 hl (Nat.le_of_ble_eq_true rfl) rfl (fun ls hl => ?_)
          refine g_iconst (v := 0) G dX0_chance_33 rfl ?_
          refine g_istore (lv' := [(5, .int 0), (4, .int 0), (0, .ref a0), (1, .int a1), (2, .int x1), (3, .int x2)]) G dX0_chance_34 hl (Nat.le_of_ble_eq_true rfl) rfl (fun ls hl => ?_)
          obtain ⟨k80, ek80, hf⟩ := jn_open hf
          have K80 : ∀ (x3 : Int32) (h4 : PH) (H : Heap) (locs : List Loc), k80 x3 h4 = some (r, h') → PI D A cap H0 h4 H locs → ∀ ls : Array Slot, lv_has ls 6 [(0, .ref a0), (1, .int a1), (2, .int x1), (3, .int x2), (4, .int x3)] → Z H locs (cx H) (sx H) (F0 m 80 ls []) := by
            intro x3 h4 H locs hf hM ls hl
            rw [ek80] at hf
            refine g_iload_n G dX0_chance_80 rfl (lv_at hl 2 rfl) ?_
            refine g_iload G dX0_chance_81 (lv_at hl 4 rfl) ?_
            obtain ⟨r2, h5, g3, hf⟩ := bnd_open hf
            refine p_callS_r (As := [.int x3]) (rest := [.int x1]) X hM hl pcy_J16_bitCount q1228 q1229 (kJ16_bitCount g3) rfl (Nat.le_of_ble_eq_true rfl) (Nat.le_of_ble_eq_true rfl) rfl dX0_chance_83 (fun H locs hM => ?_)
            refine g_iadd G dX0_chance_86 ?_
            refine g_istore_n (i := 2) (lv' := [(2, .int (x1 + r2)), (0, .ref a0), (1, .int a1), (3, .int x2), (4, .int x3)]) G dX0_chance_87 rfl hl (Nat.le_of_ble_eq_true rfl) rfl (fun ls hl => ?_)
            refine g_aload_n G dX0_chance_88 rfl (lv_at hl 1 rfl) ?_
            obtain ⟨p1, g4, hf⟩ := vA_open hf
            refine p_get (k := 9) X hM pc_0 (by decide) q457 rfl g4 dX0_chance_89 ?_
            refine g_iload G dX0_chance_92 (lv_at hl 4 rfl) ?_
            obtain ⟨b3, hf⟩ := ckc_open hf
            obtain ⟨r3, h6, g5, hf⟩ := bnd_open hf
            refine p_callV_r (ci := 5) (As := [.int x3]) (rest := []) X hM hl rfl b3 pcy_X5_passes q1529 q1431 q1432 (kX5_passes g5) rfl (Nat.le_of_ble_eq_true rfl) (Nat.le_of_ble_eq_true rfl) rfl dX0_chance_94 (fun H locs hM => ?_)
            refine g_pop G dX0_chance_97 rfl ?_
            refine g_iinc (v := x2 + 1) (lv' := [(3, .int (x2 + 1)), (2, .int (x1 + r2)), (0, .ref a0), (1, .int a1), (4, .int x3)]) G dX0_chance_98 hl (k := 3) rfl rfl (Nat.le_of_ble_eq_true rfl) rfl (fun ls hl => ?_)
            refine g_goto (tgt := 25) G dX0_chance_101 rfl ?_
            exact ih25 _ _ _ _ _ hf hM ls (lv_sub hl [2, 3, 1, 0] rfl)
          have L36 : ∀ (n : Nat) (x4 : Int32) (x5 : Int32) (h7 : PH) (H : Heap) (locs : List Loc), fx (fX0_chance_L36 a0 k80) (fun _ _ _ => none) n x4 x5 h7 = some (r, h') → PI D A cap H0 h7 H locs → ∀ ls : Array Slot, lv_has ls 6 [(0, .ref a0), (1, .int a1), (2, .int x1), (3, .int x2), (4, .int x4), (5, .int x5)] → Z H locs (cx H) (sx H) (F0 m 36 ls []) := by
            intro n
            induction n with
            | zero => intro x4 x5 h7 H locs hf; exact absurd hf (by intro q; cases q)
            | succ n ih36 =>
              intro x4 x5 h7 H locs hf hM ls hl
              rw [fx_s] at hf
              generalize fx (fX0_chance_L36 a0 k80) (fun _ _ _ => none) n = s36 at hf ih36
              unfold fX0_chance_L36 at hf
              refine g_iload G dX0_chance_36 (lv_at hl 5 rfl) ?_
              refine g_aload_n G dX0_chance_38 rfl (lv_at hl 0 rfl) ?_
              obtain ⟨b4, hf⟩ := ckc_open hf
              obtain ⟨r4, h8, g6, hf⟩ := bnd_open hf
              refine p_callV_r (ci := 0) (As := []) (rest := [.int x5]) X hM hl rfl b4 pcy_X0_people q1227 q1208 qs34 (kX0_people g6) rfl (Nat.le_of_ble_eq_true rfl) (Nat.le_of_ble_eq_true rfl) rfl dX0_chance_39 (fun H locs hM => ?_)
              refine g_icmp_ge (tgt := 80) G dX0_chance_42 rfl (fun c3 => ?_) (fun c3 => ?_)
              · have hf := it_pos c3 hf
                exact K80 _ _ _ _ hf hM ls (lv_sub hl [0, 1, 2, 3, 4] rfl)
              · have hf := it_neg c3 hf
                refine g_iload G dX0_chance_45 (lv_at hl 4 rfl) ?_
                refine g_aload_n G dX0_chance_47 rfl (lv_at hl 0 rfl) ?_
                refine g_bipush (v := 100) G dX0_chance_48 rfl ?_
                obtain ⟨b5, hf⟩ := ckc_open hf
                obtain ⟨r5, h9, g7, hf⟩ := bnd_open hf
                refine p_callV_r (ci := 0) (As := [.int 100]) (rest := [.int x4]) X hM hl rfl b5 pcy_X0_draw q1534 q1536 qs52 (kX0_draw g7) rfl (Nat.le_of_ble_eq_true rfl) (Nat.le_of_ble_eq_true rfl) rfl dX0_chance_50 (fun H locs hM => ?_)
                refine g_aload_n G dX0_chance_53 rfl (lv_at hl 0 rfl) ?_
                obtain ⟨p2, g8, hf⟩ := vA_open hf
                refine p_get (k := 0) X hM pc_0 (by decide) q446 rfl g8 dX0_chance_54 ?_
                obtain ⟨v1, g9, hf⟩ := vI_open hf
                refine p_getN (k := 3) X hM pc_1 (by decide) q237 rfl g9 dX0_chance_57 ?_
                obtain ⟨j71, ej71, hf⟩ := jn_open hf
                have J71 : ∀ (x6 : Int32) (h10 : PH) (H : Heap) (locs : List Loc), j71 x6 h10 = some (r, h') → PI D A cap H0 h10 H locs → ∀ ls : Array Slot, lv_has ls 6 [(0, .ref a0), (1, .int a1), (2, .int x1), (3, .int x2), (5, .int x5)] → Z H locs (cx H) (sx H) (F0 m 71 ls [.int x6, .int x4]) := by
                  intro x6 h10 H locs hf hM ls hl
                  rw [ej71] at hf
                  refine g_ior G dX0_chance_71 ?_
                  refine g_istore (lv' := [(4, .int (x4 ||| x6)), (0, .ref a0), (1, .int a1), (2, .int x1), (3, .int x2), (5, .int x5)]) G dX0_chance_72 hl (Nat.le_of_ble_eq_true rfl) rfl (fun ls hl => ?_)
                  refine g_iinc (v := x5 + 1) (lv' := [(5, .int (x5 + 1)), (4, .int (x4 ||| x6)), (0, .ref a0), (1, .int a1), (2, .int x1), (3, .int x2)]) G dX0_chance_74 hl (k := 5) rfl rfl (Nat.le_of_ble_eq_true rfl) rfl (fun ls hl => ?_)
                  refine g_goto (tgt := 36) G dX0_chance_77 rfl ?_
                  exact ih36 _ _ _ _ _ hf hM ls (lv_sub hl [2, 3, 4, 5, 1, 0] rfl)
                refine g_icmp_ge (tgt := 70) G dX0_chance_60 rfl (fun c4 => ?_) (fun c4 => ?_)
                · have hf := it_pos c4 hf
                  refine g_iconst (v := 0) G dX0_chance_70 rfl ?_
                  exact J71 _ _ _ _ hf hM ls (lv_sub hl [0, 1, 2, 3, 5] rfl)
                · have hf := it_neg c4 hf
                  refine g_iconst (v := 1) G dX0_chance_63 rfl ?_
                  refine g_iload G dX0_chance_64 (lv_at hl 5 rfl) ?_
                  refine g_ishl G dX0_chance_66 ?_
                  refine g_goto (tgt := 71) G dX0_chance_67 rfl ?_
                  exact J71 _ _ _ _ hf hM ls (lv_sub hl [0, 1, 2, 3, 5] rfl)
          exact L36 FU _ _ _ _ _ hf hM ls (lv_sub hl [2, 3, 4, 5, 1, 0] rfl)
    exact L25 FU _ _ _ _ _ hf hM ls (lv_sub hl [2, 3, 1, 0] rfl)
  · have hf := it_pos c1 hf
    refine g_aload_n G dX0_chance_11 rfl (lv_at hl 0 rfl) ?_
    refine g_iconst (v := 3) G dX0_chance_12 rfl ?_
    obtain ⟨b6, hf⟩ := ckc_open hf
    obtain ⟨r6, h11, g10, hf⟩ := bnd_open hf
    refine p_callV_r (ci := 0) (As := [.int 3]) (rest := []) X hM hl rfl b6 pcy_X0_refuses q516 q518 qs1 (kX0_refuses g10) rfl (Nat.le_of_ble_eq_true rfl) (Nat.le_of_ble_eq_true rfl) rfl dX0_chance_13 (fun H locs hM => ?_)
    exact p_iret X hM hf dX0_chance_16
theorem pcy_X0_seed : pcY yX0_seed cX0_seed 2 (Option.some Jvm.ClassFile.FieldType.boolean) 1 := ⟨q1545, q145, ⟨by decide +kernel, by decide +kernel, by decide +kernel⟩, Nat.le_of_ble_eq_true rfl⟩
noncomputable def fX0_seed (a0 : Nat) (a1 : Int32) (h : PH) : Option (Bool × PH) :=
  if 0 ≤ a1 then
    bnv (pPut h a0 0 17 (.long (Int32.toInt64 a1))) fun h1 =>
    some (true, h1)
  else
    ckc (pCls h a0) 0 <|
    bnd (fX0_refuses a0 5 h) fun r1 h2 =>
    if r1 < 0 then
      some (false, h2)
    else
      some (true, h2)
set_option maxHeartbeats 1000000 in
theorem kX0_seed {l : Launch} {D : PD} {A : Nat → Prop} {cap : Nat × Nat} {a0 : Nat} {a1 : Int32} {h h' : PH} {r : Bool} (hf : fX0_seed a0 a1 h = some (r, h')) : CMet l D A cap yX0_seed cX0_seed 2 (Option.some Jvm.ClassFile.FieldType.boolean) 2 [.ref a0, .int a1] h h' (some (.int (bI r))) := by
  unfold fX0_seed at hf
  refine p_head (own := RX0) (ini := false) (pn_X0 rfl) rfl (fun q => by cases q) (Nat.le_of_ble_eq_true rfl) (fun m Z cx sx H0 ls X hM hl => ?_)
  have G := X.g
  have hl : lv_has ls 2 [(0, .ref a0), (1, .int a1)] := hl
  refine g_iload_n G dX0_seed_0 rfl (lv_at hl 1 rfl) ?_
  refine g_if_ge (tgt := 18) G dX0_seed_1 rfl (fun c1 => ?_) (fun c1 => ?_)
  · have hf := it_pos c1 hf
    refine g_aload_n G dX0_seed_18 rfl (lv_at hl 0 rfl) ?_
    refine g_iload_n G dX0_seed_19 rfl (lv_at hl 1 rfl) ?_
    refine g_i2l (v := Int32.toInt64 a1) G dX0_seed_20 rfl ?_
    obtain ⟨h1, g1, hf⟩ := bnv_open hf
    refine p_put (k := 17) X hM pc_0 (by decide) q465 rfl rfl rfl rfl g1 dX0_seed_21 (fun H locs hM => ?_)
    refine g_iconst (v := 1) G dX0_seed_24 rfl ?_
    exact p_zret X hM hf dX0_seed_25
  · have hf := it_neg c1 hf
    refine g_aload_n G dX0_seed_4 rfl (lv_at hl 0 rfl) ?_
    refine g_iconst (v := 5) G dX0_seed_5 rfl ?_
    obtain ⟨b1, hf⟩ := ckc_open hf
    obtain ⟨r1, h2, g2, hf⟩ := bnd_open hf
    refine p_callV_r (ci := 0) (As := [.int 5]) (rest := []) X hM hl rfl b1 pcy_X0_refuses q516 q518 qs1 (kX0_refuses g2) rfl (Nat.le_of_ble_eq_true rfl) (Nat.le_of_ble_eq_true rfl) rfl dX0_seed_6 (fun H locs hM => ?_)
    refine g_if_lt (tgt := 16) G dX0_seed_9 rfl (fun c2 => ?_) (fun c2 => ?_)
    · have hf := it_pos c2 hf
      refine g_iconst (v := 0) G dX0_seed_16 rfl ?_
      exact p_zret X hM hf dX0_seed_17
    · have hf := it_neg c2 hf
      refine g_iconst (v := 1) G dX0_seed_12 rfl ?_
      refine g_goto (tgt := 17) G dX0_seed_13 rfl ?_
      exact p_zret X hM hf dX0_seed_17
theorem pcy_X0_writes : pcY yX0_writes cX0_writes 2 none 1 := ⟨q1598, q145, ⟨by decide +kernel, by decide +kernel, by decide +kernel⟩, Nat.le_of_ble_eq_true rfl⟩
noncomputable def fX0_writes (a0 : Nat) (a1 : Int32) (h : PH) : Option (PH) :=
  vA (pF h a0 0 19) fun p1 =>
  vI (pF h a0 0 20) fun v1 =>
  bnv (pPut h a0 0 20 (.int (v1 + 1))) fun h1 =>
  bnv (pSt h1 p1 2 v1 (vp_nar .byte ((Int32.toInt8 a1).toInt32))) fun h2 =>
  some h2
set_option maxHeartbeats 1000000 in
theorem kX0_writes {l : Launch} {D : PD} {A : Nat → Prop} {cap : Nat × Nat} {a0 : Nat} {a1 : Int32} {h h' : PH} (hf : fX0_writes a0 a1 h = some h') : CMet l D A cap yX0_writes cX0_writes 2 none 1 [.ref a0, .int a1] h h' (none) := by
  unfold fX0_writes at hf
  refine p_head (own := RX0) (ini := false) (pn_X0 rfl) rfl (fun q => by cases q) (Nat.le_of_ble_eq_true rfl) (fun m Z cx sx H0 ls X hM hl => ?_)
  have G := X.g
  have hl : lv_has ls 2 [(0, .ref a0), (1, .int a1)] := hl
  refine g_aload_n G dX0_writes_0 rfl (lv_at hl 0 rfl) ?_
  obtain ⟨p1, g1, hf⟩ := vA_open hf
  refine p_get (k := 19) X hM pc_0 (by decide) q467 rfl g1 dX0_writes_1 ?_
  refine g_aload_n G dX0_writes_4 rfl (lv_at hl 0 rfl) ?_
  refine g_dup G dX0_writes_5 rfl ?_
  obtain ⟨v1, g2, hf⟩ := vI_open hf
  refine p_get (k := 20) X hM pc_0 (by decide) q468 rfl g2 dX0_writes_6 ?_
  refine g_dup_x1 G dX0_writes_9 rfl rfl ?_
  refine g_iconst (v := 1) G dX0_writes_10 rfl ?_
  refine g_iadd G dX0_writes_11 ?_
  obtain ⟨h1, g3, hf⟩ := bnv_open hf
  refine p_put (k := 20) X hM pc_0 (by decide) q468 rfl rfl rfl rfl g3 dX0_writes_12 (fun H locs hM => ?_)
  refine g_iload_n G dX0_writes_15 rfl (lv_at hl 1 rfl) ?_
  refine g_i2b (v := (Int32.toInt8 a1).toInt32) G dX0_writes_16 rfl ?_
  obtain ⟨h2, g4, hf⟩ := bnv_open hf
  refine p_bast X hM g4 dX0_writes_17 (fun H locs hM => ?_)
  exact p_vret X hM hf dX0_writes_18
theorem pcy_X0_check : pcY yX0_check cX0_check 4 (Option.some Jvm.ClassFile.FieldType.int) 2 := ⟨q1601, q145, ⟨by decide +kernel, by decide +kernel, by decide +kernel⟩, Nat.le_of_ble_eq_true rfl⟩
noncomputable def fX0_check_L5 (a1 : Nat) (a2 : Int32) (s5 : Int32 → Int32 → PH → Option (Int32 × PH)) (x1 : Int32) (x2 : Int32) (h1 : PH) : Option (Int32 × PH) :=
  if a2 ≤ x2 then
    some (x1, h1)
  else
    ob (pLd h1 a1 2 x2) fun v1 =>
    s5 ((((3 : Int32) * x1) + (v1 &&& 255)) - (((3 : Int32) * x1) + (v1 &&& 255)) / 251 * 251) (x2 + 1) h1
noncomputable def fX0_check (a1 : Nat) (a2 : Int32) (h : PH) : Option (Int32 × PH) :=
  fx (fX0_check_L5 a1 a2) (fun _ _ _ => none) FU 43 0 h
set_option maxHeartbeats 1000000 in
theorem kX0_check {l : Launch} {D : PD} {A : Nat → Prop} {cap : Nat × Nat} {a1 : Nat} {a2 : Int32} {h h' : PH} {r : Int32} (hf : fX0_check a1 a2 h = some (r, h')) : CMet l D A cap yX0_check cX0_check 4 (Option.some Jvm.ClassFile.FieldType.int) 1 [.ref a1, .int a2] h h' (some (.int r)) := by
  unfold fX0_check at hf
  refine p_head (own := RX0) (ini := false) (pn_X0 rfl) rfl (fun q => by cases q) (Nat.le_of_ble_eq_true rfl) (fun m Z cx sx H0 ls X hM hl => ?_)
  have G := X.g
  have hl : lv_has ls 4 [(0, .ref a1), (1, .int a2)] := hl
  refine g_bipush (v := 43) G dX0_check_0 rfl ?_
  refine g_istore_n (i := 2) (lv' := [(2, .int 43), (0, .ref a1), (1, .int a2)]) G dX0_check_2 rfl hl (Nat.le_of_ble_eq_true rfl) rfl (fun ls hl => ?_)
  refine g_iconst (v := 0) G dX0_check_3 rfl ?_
  refine g_istore_n (i := 3) (lv' := [(3, .int 0), (2, .int 43), (0, .ref a1), (1, .int a2)]) G dX0_check_4 rfl hl (Nat.le_of_ble_eq_true rfl) rfl (fun ls hl => ?_)
  have L5 : ∀ (n : Nat) (x1 : Int32) (x2 : Int32) (h1 : PH) (H : Heap) (locs : List Loc), fx (fX0_check_L5 a1 a2) (fun _ _ _ => none) n x1 x2 h1 = some (r, h') → PI D A cap H0 h1 H locs → ∀ ls : Array Slot, lv_has ls 4 [(0, .ref a1), (1, .int a2), (2, .int x1), (3, .int x2)] → Z H locs (cx H) (sx H) (F0 m 5 ls []) := by
    intro n
    induction n with
    | zero => intro x1 x2 h1 H locs hf; exact absurd hf (by intro q; cases q)
    | succ n ih5 =>
      intro x1 x2 h1 H locs hf hM ls hl
      rw [fx_s] at hf
      generalize fx (fX0_check_L5 a1 a2) (fun _ _ _ => none) n = s5 at hf ih5
      unfold fX0_check_L5 at hf
      refine g_iload_n G dX0_check_5 rfl (lv_at hl 3 rfl) ?_
      refine g_iload_n G dX0_check_6 rfl (lv_at hl 1 rfl) ?_
      refine g_icmp_ge (tgt := 32) G dX0_check_7 rfl (fun c1 => ?_) (fun c1 => ?_)
      · have hf := it_pos c1 hf
        refine g_iload_n G dX0_check_32 rfl (lv_at hl 2 rfl) ?_
        exact p_iret X hM hf dX0_check_33
      · have hf := it_neg c1 hf
        refine g_iconst (v := 3) G dX0_check_10 rfl ?_
        refine g_iload_n G dX0_check_11 rfl (lv_at hl 2 rfl) ?_
        refine g_imul G dX0_check_12 ?_
        refine g_aload_n G dX0_check_13 rfl (lv_at hl 0 rfl) ?_
        refine g_iload_n G dX0_check_14 rfl (lv_at hl 3 rfl) ?_
        obtain ⟨v1, g1, hf⟩ := ob_open hf
        refine p_bald X hM g1 dX0_check_15 ?_
        refine g_sipush (v := 255) G dX0_check_16 rfl ?_
        refine g_iand G dX0_check_19 ?_
        refine g_iadd G dX0_check_20 ?_
        refine g_sipush (v := 251) G dX0_check_21 rfl ?_
        refine g_irem G dX0_check_24 (by decide) ?_
        refine g_istore_n (i := 2) (lv' := [(2, .int ((((3 : Int32) * x1) + (v1 &&& 255)) - (((3 : Int32) * x1) + (v1 &&& 255)) / 251 * 251)), (0, .ref a1), (1, .int a2), (3, .int x2)]) G dX0_check_25 rfl hl (Nat.le_of_ble_eq_true rfl) rfl (fun ls hl => ?_)
        refine g_iinc (v := x2 + 1) (lv' := [(3, .int (x2 + 1)), (2, .int ((((3 : Int32) * x1) + (v1 &&& 255)) - (((3 : Int32) * x1) + (v1 &&& 255)) / 251 * 251)), (0, .ref a1), (1, .int a2)]) G dX0_check_26 hl (k := 3) rfl rfl (Nat.le_of_ble_eq_true rfl) rfl (fun ls hl => ?_)
        refine g_goto (tgt := 5) G dX0_check_29 rfl ?_
        exact ih5 _ _ _ _ _ hf hM ls (lv_sub hl [2, 3, 1, 0] rfl)
  exact L5 FU _ _ _ _ _ hf hM ls (lv_sub hl [2, 3, 1, 0] rfl)
theorem pcy_X0_image : pcY yX0_image cX0_image 2 (Option.some Jvm.ClassFile.FieldType.int) 0 := ⟨q1594, q145, ⟨by decide +kernel, by decide +kernel, by decide +kernel⟩, Nat.le_of_ble_eq_true rfl⟩
noncomputable def fX0_image_L32 (a0 : Nat) (k143 : PH → Option (Int32 × PH)) (s32 : Int32 → PH → Option (Int32 × PH)) (x1 : Int32) (h7 : PH) : Option (Int32 × PH) :=
  ckc (pCls h7 a0) 0 <|
  bnd (fX0_people a0 h7) fun r2 h8 =>
  if r2 ≤ x1 then
    k143 h8
  else
    vA (pF h8 a0 0 9) fun p4 =>
    vA (pF h8 p4 5 4) fun p5 =>
    ob (pLd h8 p5 0 x1) fun v5 =>
    ckc (pCls h8 a0) 0 <|
    bnv (fX0_writes a0 (v5 + 1) h8) fun h9 =>
    vA (pF h9 a0 0 9) fun p6 =>
    vA (pF h9 p6 5 5) fun p7 =>
    ob (pLd h9 p7 0 x1) fun v6 =>
    ckc (pCls h9 a0) 0 <|
    bnv (fX0_writes a0 v6 h9) fun h10 =>
    vA (pF h10 a0 0 9) fun p8 =>
    vA (pF h10 p8 5 6) fun p9 =>
    ob (pLd h10 p9 0 x1) fun v7 =>
    ckc (pCls h10 a0) 0 <|
    bnv (fX0_writes a0 v7 h10) fun h11 =>
    vA (pF h11 a0 0 9) fun p10 =>
    vA (pF h11 p10 5 7) fun p11 =>
    ob (pLd h11 p11 0 x1) fun v8 =>
    ckc (pCls h11 a0) 0 <|
    bnv (fX0_writes a0 v8 h11) fun h12 =>
    vA (pF h12 a0 0 9) fun p12 =>
    vI (pF h12 p12 5 1) fun v9 =>
    bnd (fX0_has v9 x1 h12) fun r3 h13 =>
    jn (fun (x2 : Bool) (h14 : PH) =>
      vA (pF h14 a0 0 9) fun p13 =>
      vI (pF h14 p13 5 2) fun v10 =>
      bnd (fX0_has v10 x1 h14) fun r4 h15 =>
      jn (fun (x3 : Int32) (h16 : PH) =>
        ckc (pCls h16 a0) 0 <|
        bnv (fX0_writes a0 ((bI x2) + x3) h16) fun h17 =>
        s32 (x1 + 1) h17) fun j133 =>
      if (bI r4) = 0 then
        j133 0 h15
      else
        j133 2 h15) fun j114 =>
    if (bI r3) = 0 then
      j114 false h13
    else
      j114 true h13
noncomputable def fX0_image (a0 : Nat) (h : PH) : Option (Int32 × PH) :=
  bnv (pPut h a0 0 20 (.int 0)) fun h1 =>
  vA (pF h1 a0 0 9) fun p1 =>
  vI (pF h1 p1 5 0) fun v1 =>
  ckc (pCls h1 a0) 0 <|
  bnv (fX0_writes a0 (v1 >>> (8 &&& 31)) h1) fun h2 =>
  vA (pF h2 a0 0 9) fun p2 =>
  vI (pF h2 p2 5 0) fun v2 =>
  ckc (pCls h2 a0) 0 <|
  bnv (fX0_writes a0 v2 h2) fun h3 =>
  jn (fun (h4 : PH) =>
    vA (pF h4 a0 0 19) fun p3 =>
    vI (pF h4 a0 0 20) fun v3 =>
    bnd (fX0_check p3 v3 h4) fun r1 h5 =>
    ckc (pCls h5 a0) 0 <|
    bnv (fX0_writes a0 r1 h5) fun h6 =>
    vI (pF h6 a0 0 20) fun v4 =>
    some (v4, h6)) fun k143 =>
  fx (fX0_image_L32 a0 k143) (fun _ _ => none) FU 0 h3
set_option maxHeartbeats 1000000 in
theorem kX0_image {l : Launch} {D : PD} {A : Nat → Prop} {cap : Nat × Nat} {a0 : Nat} {h h' : PH} {r : Int32} (hf : fX0_image a0 h = some (r, h')) : CMet l D A cap yX0_image cX0_image 2 (Option.some Jvm.ClassFile.FieldType.int) 3 [.ref a0] h h' (some (.int r)) := by
  unfold fX0_image at hf
  refine p_head (own := RX0) (ini := false) (pn_X0 rfl) rfl (fun q => by cases q) (Nat.le_of_ble_eq_true rfl) (fun m Z cx sx H0 ls X hM hl => ?_)
  have G := X.g
  have hl : lv_has ls 2 [(0, .ref a0)] := hl
  refine g_aload_n G dX0_image_0 rfl (lv_at hl 0 rfl) ?_
  refine g_iconst (v := 0) G dX0_image_1 rfl ?_
  obtain ⟨h1, g1, hf⟩ := bnv_open hf
  refine p_put (k := 20) X hM pc_0 (by decide) q468 rfl rfl rfl rfl g1 dX0_image_2 (fun H locs hM => ?_)
  refine g_aload_n G dX0_image_5 rfl (lv_at hl 0 rfl) ?_
  refine g_aload_n G dX0_image_6 rfl (lv_at hl 0 rfl) ?_
  obtain ⟨p1, g2, hf⟩ := vA_open hf
  refine p_get (k := 9) X hM pc_0 (by decide) q457 rfl g2 dX0_image_7 ?_
  obtain ⟨v1, g3, hf⟩ := vI_open hf
  refine p_getN (k := 0) X hM pc_5 (by decide) q397 rfl g3 dX0_image_10 ?_
  refine g_bipush (v := 8) G dX0_image_13 rfl ?_
  refine g_ishr G dX0_image_15 ?_
  obtain ⟨b1, hf⟩ := ckc_open hf
  obtain ⟨h2, g4, hf⟩ := bnv_open hf
  refine p_callV_v (ci := 0) (As := [.int (v1 >>> (8 &&& 31))]) (rest := []) X hM hl rfl b1 pcy_X0_writes q1595 q1597 qs53 (kX0_writes g4) rfl (Nat.le_of_ble_eq_true rfl) (Nat.le_of_ble_eq_true rfl) rfl dX0_image_16 (fun H locs hM => ?_)
  refine g_aload_n G dX0_image_19 rfl (lv_at hl 0 rfl) ?_
  refine g_aload_n G dX0_image_20 rfl (lv_at hl 0 rfl) ?_
  obtain ⟨p2, g5, hf⟩ := vA_open hf
  refine p_get (k := 9) X hM pc_0 (by decide) q457 rfl g5 dX0_image_21 ?_
  obtain ⟨v2, g6, hf⟩ := vI_open hf
  refine p_getN (k := 0) X hM pc_5 (by decide) q397 rfl g6 dX0_image_24 ?_
  obtain ⟨b2, hf⟩ := ckc_open hf
  obtain ⟨h3, g7, hf⟩ := bnv_open hf
  refine p_callV_v (ci := 0) (As := [.int v2]) (rest := []) X hM hl rfl b2 pcy_X0_writes q1595 q1597 qs53 (kX0_writes g7) rfl (Nat.le_of_ble_eq_true rfl) (Nat.le_of_ble_eq_true rfl) rfl dX0_image_27 (fun H locs hM => ?_)
  refine g_iconst (v := 0) G dX0_image_30 rfl ?_
  refine g_istore_n (i := 1) (lv' := [(1, .int 0), (0, .ref a0)]) G dX0_image_31 rfl hl (Nat.le_of_ble_eq_true rfl) rfl (fun ls hl => ?_)
  obtain ⟨k143, ek143, hf⟩ := jn_open hf
  have K143 : ∀ (h4 : PH) (H : Heap) (locs : List Loc), k143 h4 = some (r, h') → PI D A cap H0 h4 H locs → ∀ ls : Array Slot, lv_has ls 2 [(0, .ref a0)] → Z H locs (cx H) (sx H) (F0 m 143 ls []) := by
    intro h4 H locs hf hM ls hl
    rw [ek143] at hf
    refine g_aload_n G dX0_image_143 rfl (lv_at hl 0 rfl) ?_
    refine g_aload_n G dX0_image_144 rfl (lv_at hl 0 rfl) ?_
    obtain ⟨p3, g8, hf⟩ := vA_open hf
    refine p_get (k := 19) X hM pc_0 (by decide) q467 rfl g8 dX0_image_145 ?_
    refine g_aload_n G dX0_image_148 rfl (lv_at hl 0 rfl) ?_
    obtain ⟨v3, g9, hf⟩ := vI_open hf
    refine p_get (k := 20) X hM pc_0 (by decide) q468 rfl g9 dX0_image_149 ?_
    obtain ⟨r1, h5, g10, hf⟩ := bnd_open hf
    refine p_callS_r (As := [.ref p3, .int v3]) (rest := [.ref a0]) X hM hl pcy_X0_check q1599 q1600 (kX0_check g10) rfl (Nat.le_of_ble_eq_true rfl) (Nat.le_of_ble_eq_true rfl) rfl dX0_image_152 (fun H locs hM => ?_)
    obtain ⟨b3, hf⟩ := ckc_open hf
    obtain ⟨h6, g11, hf⟩ := bnv_open hf
    refine p_callV_v (ci := 0) (As := [.int r1]) (rest := []) X hM hl rfl b3 pcy_X0_writes q1595 q1597 qs53 (kX0_writes g11) rfl (Nat.le_of_ble_eq_true rfl) (Nat.le_of_ble_eq_true rfl) rfl dX0_image_155 (fun H locs hM => ?_)
    refine g_aload_n G dX0_image_158 rfl (lv_at hl 0 rfl) ?_
    obtain ⟨v4, g12, hf⟩ := vI_open hf
    refine p_get (k := 20) X hM pc_0 (by decide) q468 rfl g12 dX0_image_159 ?_
    exact p_iret X hM hf dX0_image_162
  have L32 : ∀ (n : Nat) (x1 : Int32) (h7 : PH) (H : Heap) (locs : List Loc), fx (fX0_image_L32 a0 k143) (fun _ _ => none) n x1 h7 = some (r, h') → PI D A cap H0 h7 H locs → ∀ ls : Array Slot, lv_has ls 2 [(0, .ref a0), (1, .int x1)] → Z H locs (cx H) (sx H) (F0 m 32 ls []) := by
    intro n
    induction n with
    | zero => intro x1 h7 H locs hf; exact absurd hf (by intro q; cases q)
    | succ n ih32 =>
      intro x1 h7 H locs hf hM ls hl
      rw [fx_s] at hf
      generalize fx (fX0_image_L32 a0 k143) (fun _ _ => none) n = s32 at hf ih32
      unfold fX0_image_L32 at hf
      refine g_iload_n G dX0_image_32 rfl (lv_at hl 1 rfl) ?_
      refine g_aload_n G dX0_image_33 rfl (lv_at hl 0 rfl) ?_
      obtain ⟨b4, hf⟩ := ckc_open hf
      obtain ⟨r2, h8, g13, hf⟩ := bnd_open hf
      refine p_callV_r (ci := 0) (As := []) (rest := [.int x1]) X hM hl rfl b4 pcy_X0_people q1227 q1208 qs34 (kX0_people g13) rfl (Nat.le_of_ble_eq_true rfl) (Nat.le_of_ble_eq_true rfl) rfl dX0_image_34 (fun H locs hM => ?_)
      refine g_icmp_ge (tgt := 143) G dX0_image_37 rfl (fun c1 => ?_) (fun c1 => ?_)
      · have hf := it_pos c1 hf
        exact K143 _ _ _ hf hM ls (lv_sub hl [0] rfl)
      · have hf := it_neg c1 hf
        refine g_aload_n G dX0_image_40 rfl (lv_at hl 0 rfl) ?_
        refine g_aload_n G dX0_image_41 rfl (lv_at hl 0 rfl) ?_
        obtain ⟨p4, g14, hf⟩ := vA_open hf
        refine p_get (k := 9) X hM pc_0 (by decide) q457 rfl g14 dX0_image_42 ?_
        obtain ⟨p5, g15, hf⟩ := vA_open hf
        refine p_getN (k := 4) X hM pc_5 (by decide) q405 rfl g15 dX0_image_45 ?_
        refine g_iload_n G dX0_image_48 rfl (lv_at hl 1 rfl) ?_
        obtain ⟨v5, g16, hf⟩ := ob_open hf
        refine p_iald X hM g16 dX0_image_49 ?_
        refine g_iconst (v := 1) G dX0_image_50 rfl ?_
        refine g_iadd G dX0_image_51 ?_
        obtain ⟨b5, hf⟩ := ckc_open hf
        obtain ⟨h9, g17, hf⟩ := bnv_open hf
        refine p_callV_v (ci := 0) (As := [.int (v5 + 1)]) (rest := []) X hM hl rfl b5 pcy_X0_writes q1595 q1597 qs53 (kX0_writes g17) rfl (Nat.le_of_ble_eq_true rfl) (Nat.le_of_ble_eq_true rfl) rfl dX0_image_52 (fun H locs hM => ?_)
        refine g_aload_n G dX0_image_55 rfl (lv_at hl 0 rfl) ?_
        refine g_aload_n G dX0_image_56 rfl (lv_at hl 0 rfl) ?_
        obtain ⟨p6, g18, hf⟩ := vA_open hf
        refine p_get (k := 9) X hM pc_0 (by decide) q457 rfl g18 dX0_image_57 ?_
        obtain ⟨p7, g19, hf⟩ := vA_open hf
        refine p_getN (k := 5) X hM pc_5 (by decide) q407 rfl g19 dX0_image_60 ?_
        refine g_iload_n G dX0_image_63 rfl (lv_at hl 1 rfl) ?_
        obtain ⟨v6, g20, hf⟩ := ob_open hf
        refine p_iald X hM g20 dX0_image_64 ?_
        obtain ⟨b6, hf⟩ := ckc_open hf
        obtain ⟨h10, g21, hf⟩ := bnv_open hf
        refine p_callV_v (ci := 0) (As := [.int v6]) (rest := []) X hM hl rfl b6 pcy_X0_writes q1595 q1597 qs53 (kX0_writes g21) rfl (Nat.le_of_ble_eq_true rfl) (Nat.le_of_ble_eq_true rfl) rfl dX0_image_65 (fun H locs hM => ?_)
        refine g_aload_n G dX0_image_68 rfl (lv_at hl 0 rfl) ?_
        refine g_aload_n G dX0_image_69 rfl (lv_at hl 0 rfl) ?_
        obtain ⟨p8, g22, hf⟩ := vA_open hf
        refine p_get (k := 9) X hM pc_0 (by decide) q457 rfl g22 dX0_image_70 ?_
        obtain ⟨p9, g23, hf⟩ := vA_open hf
        refine p_getN (k := 6) X hM pc_5 (by decide) q409 rfl g23 dX0_image_73 ?_
        refine g_iload_n G dX0_image_76 rfl (lv_at hl 1 rfl) ?_
        obtain ⟨v7, g24, hf⟩ := ob_open hf
        refine p_iald X hM g24 dX0_image_77 ?_
        obtain ⟨b7, hf⟩ := ckc_open hf
        obtain ⟨h11, g25, hf⟩ := bnv_open hf
        refine p_callV_v (ci := 0) (As := [.int v7]) (rest := []) X hM hl rfl b7 pcy_X0_writes q1595 q1597 qs53 (kX0_writes g25) rfl (Nat.le_of_ble_eq_true rfl) (Nat.le_of_ble_eq_true rfl) rfl dX0_image_78 (fun H locs hM => ?_)
        refine g_aload_n G dX0_image_81 rfl (lv_at hl 0 rfl) ?_
        refine g_aload_n G dX0_image_82 rfl (lv_at hl 0 rfl) ?_
        obtain ⟨p10, g26, hf⟩ := vA_open hf
        refine p_get (k := 9) X hM pc_0 (by decide) q457 rfl g26 dX0_image_83 ?_
        obtain ⟨p11, g27, hf⟩ := vA_open hf
        refine p_getN (k := 7) X hM pc_5 (by decide) q411 rfl g27 dX0_image_86 ?_
        refine g_iload_n G dX0_image_89 rfl (lv_at hl 1 rfl) ?_
        obtain ⟨v8, g28, hf⟩ := ob_open hf
        refine p_iald X hM g28 dX0_image_90 ?_
        obtain ⟨b8, hf⟩ := ckc_open hf
        obtain ⟨h12, g29, hf⟩ := bnv_open hf
        refine p_callV_v (ci := 0) (As := [.int v8]) (rest := []) X hM hl rfl b8 pcy_X0_writes q1595 q1597 qs53 (kX0_writes g29) rfl (Nat.le_of_ble_eq_true rfl) (Nat.le_of_ble_eq_true rfl) rfl dX0_image_91 (fun H locs hM => ?_)
        refine g_aload_n G dX0_image_94 rfl (lv_at hl 0 rfl) ?_
        refine g_aload_n G dX0_image_95 rfl (lv_at hl 0 rfl) ?_
        obtain ⟨p12, g30, hf⟩ := vA_open hf
        refine p_get (k := 9) X hM pc_0 (by decide) q457 rfl g30 dX0_image_96 ?_
        obtain ⟨v9, g31, hf⟩ := vI_open hf
        refine p_getN (k := 1) X hM pc_5 (by decide) q399 rfl g31 dX0_image_99 ?_
        refine g_iload_n G dX0_image_102 rfl (lv_at hl 1 rfl) ?_
        obtain ⟨r3, h13, g32, hf⟩ := bnd_open hf
        refine p_callS_r (As := [.int v9, .int x1]) (rest := [.ref a0]) X hM hl pcy_X0_has q1302 q914 (kX0_has g32) rfl (Nat.le_of_ble_eq_true rfl) (Nat.le_of_ble_eq_true rfl) rfl dX0_image_103 (fun H locs hM => ?_)
        obtain ⟨j114, ej114, hf⟩ := jn_open hf
        have J114 : ∀ (x2 : Bool) (h14 : PH) (H : Heap) (locs : List Loc), j114 x2 h14 = some (r, h') → PI D A cap H0 h14 H locs → ∀ ls : Array Slot, lv_has ls 2 [(0, .ref a0), (1, .int x1)] → Z H locs (cx H) (sx H) (F0 m 114 ls [.int (bI x2), .ref a0]) := by
          intro x2 h14 H locs hf hM ls hl
          rw [ej114] at hf
          refine g_aload_n G dX0_image_114 rfl (lv_at hl 0 rfl) ?_
          obtain ⟨p13, g33, hf⟩ := vA_open hf
          refine p_get (k := 9) X hM pc_0 (by decide) q457 rfl g33 dX0_image_115 ?_
          obtain ⟨v10, g34, hf⟩ := vI_open hf
          refine p_getN (k := 2) X hM pc_5 (by decide) q401 rfl g34 dX0_image_118 ?_
          refine g_iload_n G dX0_image_121 rfl (lv_at hl 1 rfl) ?_
          obtain ⟨r4, h15, g35, hf⟩ := bnd_open hf
          refine p_callS_r (As := [.int v10, .int x1]) (rest := [.int (bI x2), .ref a0]) X hM hl pcy_X0_has q1302 q914 (kX0_has g35) rfl (Nat.le_of_ble_eq_true rfl) (Nat.le_of_ble_eq_true rfl) rfl dX0_image_122 (fun H locs hM => ?_)
          obtain ⟨j133, ej133, hf⟩ := jn_open hf
          have J133 : ∀ (x3 : Int32) (h16 : PH) (H : Heap) (locs : List Loc), j133 x3 h16 = some (r, h') → PI D A cap H0 h16 H locs → ∀ ls : Array Slot, lv_has ls 2 [(0, .ref a0), (1, .int x1)] → Z H locs (cx H) (sx H) (F0 m 133 ls [.int x3, .int (bI x2), .ref a0]) := by
            intro x3 h16 H locs hf hM ls hl
            rw [ej133] at hf
            refine g_iadd G dX0_image_133 ?_
            obtain ⟨b9, hf⟩ := ckc_open hf
            obtain ⟨h17, g36, hf⟩ := bnv_open hf
            refine p_callV_v (ci := 0) (As := [.int ((bI x2) + x3)]) (rest := []) X hM hl rfl b9 pcy_X0_writes q1595 q1597 qs53 (kX0_writes g36) rfl (Nat.le_of_ble_eq_true rfl) (Nat.le_of_ble_eq_true rfl) rfl dX0_image_134 (fun H locs hM => ?_)
            refine g_iinc (v := x1 + 1) (lv' := [(1, .int (x1 + 1)), (0, .ref a0)]) G dX0_image_137 hl (k := 1) rfl rfl (Nat.le_of_ble_eq_true rfl) rfl (fun ls hl => ?_)
            refine g_goto (tgt := 32) G dX0_image_140 rfl ?_
            exact ih32 _ _ _ _ hf hM ls (lv_sub hl [1, 0] rfl)
          refine g_if_eq (tgt := 132) G dX0_image_125 rfl (fun c2 => ?_) (fun c2 => ?_)
          · have hf := it_pos c2 hf
            refine g_iconst (v := 0) G dX0_image_132 rfl ?_
            exact J133 _ _ _ _ hf hM ls (lv_sub hl [0, 1] rfl)
          · have hf := it_neg c2 hf
            refine g_iconst (v := 2) G dX0_image_128 rfl ?_
            refine g_goto (tgt := 133) G dX0_image_129 rfl ?_
            exact J133 _ _ _ _ hf hM ls (lv_sub hl [0, 1] rfl)
        refine g_if_eq (tgt := 113) G dX0_image_106 rfl (fun c3 => ?_) (fun c3 => ?_)
        · have hf := it_pos c3 hf
          refine g_iconst (v := 0) G dX0_image_113 rfl ?_
          exact J114 _ _ _ _ hf hM ls (lv_sub hl [0, 1] rfl)
        · have hf := it_neg c3 hf
          refine g_iconst (v := 1) G dX0_image_109 rfl ?_
          refine g_goto (tgt := 114) G dX0_image_110 rfl ?_
          exact J114 _ _ _ _ hf hM ls (lv_sub hl [0, 1] rfl)
  exact L32 FU _ _ _ _ hf hM ls (lv_sub hl [1, 0] rfl)
theorem pcy_X0_octet : pcY yX0_octet cX0_octet 2 (Option.some Jvm.ClassFile.FieldType.int) 1 := ⟨q1605, q145, ⟨by decide +kernel, by decide +kernel, by decide +kernel⟩, Nat.le_of_ble_eq_true rfl⟩
noncomputable def fX0_octet (a0 : Nat) (a1 : Int32) (h : PH) : Option (Int32 × PH) :=
  jn (fun (h1 : PH) =>
    some ((-1), h1)) fun j12 =>
  if a1 < 0 then
    j12 h
  else
    vI (pF h a0 0 20) fun v1 =>
    if a1 < v1 then
      vA (pF h a0 0 19) fun p1 =>
      ob (pLd h p1 2 a1) fun v2 =>
      some ((v2 &&& 255), h)
    else
      j12 h
set_option maxHeartbeats 1000000 in
theorem kX0_octet {l : Launch} {D : PD} {A : Nat → Prop} {cap : Nat × Nat} {a0 : Nat} {a1 : Int32} {h h' : PH} {r : Int32} (hf : fX0_octet a0 a1 h = some (r, h')) : CMet l D A cap yX0_octet cX0_octet 2 (Option.some Jvm.ClassFile.FieldType.int) 1 [.ref a0, .int a1] h h' (some (.int r)) := by
  unfold fX0_octet at hf
  refine p_head (own := RX0) (ini := false) (pn_X0 rfl) rfl (fun q => by cases q) (Nat.le_of_ble_eq_true rfl) (fun m Z cx sx H0 ls X hM hl => ?_)
  have G := X.g
  have hl : lv_has ls 2 [(0, .ref a0), (1, .int a1)] := hl
  refine g_iload_n G dX0_octet_0 rfl (lv_at hl 1 rfl) ?_
  obtain ⟨j12, ej12, hf⟩ := jn_open hf
  have J12 : ∀ (h1 : PH) (H : Heap) (locs : List Loc), j12 h1 = some (r, h') → PI D A cap H0 h1 H locs → ∀ ls : Array Slot, lv_has ls 2 [] → Z H locs (cx H) (sx H) (F0 m 12 ls []) := by
    intro h1 H locs hf hM ls hl
    rw [ej12] at hf
    refine g_iconst (v := (-1)) G dX0_octet_12 rfl ?_
    refine g_goto (tgt := 26) G dX0_octet_13 rfl ?_
    exact p_iret X hM hf dX0_octet_26
  refine g_if_lt (tgt := 12) G dX0_octet_1 rfl (fun c1 => ?_) (fun c1 => ?_)
  · have hf := it_pos c1 hf
    exact J12 _ _ _ hf hM ls (lv_sub hl [] rfl)
  · have hf := it_neg c1 hf
    refine g_iload_n G dX0_octet_4 rfl (lv_at hl 1 rfl) ?_
    refine g_aload_n G dX0_octet_5 rfl (lv_at hl 0 rfl) ?_
    obtain ⟨v1, g1, hf⟩ := vI_open hf
    refine p_get (k := 20) X hM pc_0 (by decide) q468 rfl g1 dX0_octet_6 ?_
    refine g_icmp_lt (tgt := 16) G dX0_octet_9 rfl (fun c2 => ?_) (fun c2 => ?_)
    · have hf := it_pos c2 hf
      refine g_aload_n G dX0_octet_16 rfl (lv_at hl 0 rfl) ?_
      obtain ⟨p1, g2, hf⟩ := vA_open hf
      refine p_get (k := 19) X hM pc_0 (by decide) q467 rfl g2 dX0_octet_17 ?_
      refine g_iload_n G dX0_octet_20 rfl (lv_at hl 1 rfl) ?_
      obtain ⟨v2, g3, hf⟩ := ob_open hf
      refine p_bald X hM g3 dX0_octet_21 ?_
      refine g_sipush (v := 255) G dX0_octet_22 rfl ?_
      refine g_iand G dX0_octet_25 ?_
      exact p_iret X hM hf dX0_octet_26
    · have hf := it_neg c2 hf
      exact J12 _ _ _ hf hM ls (lv_sub hl [] rfl)
theorem pcy_X0_personOn : pcY yX0_personOn cX0_personOn 4 (Option.some Jvm.ClassFile.FieldType.boolean) 2 := ⟨q1613, q145, ⟨by decide +kernel, by decide +kernel, by decide +kernel⟩, Nat.le_of_ble_eq_true rfl⟩
noncomputable def fX0_personOn (a0 : Nat) (a1 : Int32) (a2 : Int32) (h : PH) : Option (Bool × PH) :=
  vA (pF h a0 0 10) fun p1 =>
  vA (pF h p1 5 4) fun p2 =>
  ckc (pCls h a0) 0 <|
  bnd (fX0_byteAt a0 a2 h) fun r1 h1 =>
  bnv (pSt h1 p2 0 a1 (r1 - 1)) fun h2 =>
  vA (pF h2 a0 0 10) fun p3 =>
  vA (pF h2 p3 5 5) fun p4 =>
  ckc (pCls h2 a0) 0 <|
  bnd (fX0_byteAt a0 (a2 + 1) h2) fun r2 h3 =>
  bnv (pSt h3 p4 0 a1 r2) fun h4 =>
  vA (pF h4 a0 0 10) fun p5 =>
  vA (pF h4 p5 5 6) fun p6 =>
  ckc (pCls h4 a0) 0 <|
  bnd (fX0_byteAt a0 (a2 + 2) h4) fun r3 h5 =>
  bnv (pSt h5 p6 0 a1 r3) fun h6 =>
  vA (pF h6 a0 0 10) fun p7 =>
  vA (pF h6 p7 5 7) fun p8 =>
  ckc (pCls h6 a0) 0 <|
  bnd (fX0_byteAt a0 (a2 + 3) h6) fun r4 h7 =>
  bnv (pSt h7 p8 0 a1 r4) fun h8 =>
  vA (pF h8 a0 0 10) fun p9 =>
  vI (pF h8 p9 5 1) fun v1 =>
  ckc (pCls h8 a0) 0 <|
  bnd (fX0_byteAt a0 (a2 + 4) h8) fun r5 h9 =>
  jn (fun (x1 : Int32) (h10 : PH) =>
    bnv (pPut h10 p9 5 1 (.int (v1 ||| x1))) fun h11 =>
    vA (pF h11 a0 0 10) fun p10 =>
    vI (pF h11 p10 5 2) fun v2 =>
    ckc (pCls h11 a0) 0 <|
    bnd (fX0_byteAt a0 (a2 + 4) h11) fun r6 h12 =>
    jn (fun (x2 : Int32) (h13 : PH) =>
      bnv (pPut h13 p10 5 2 (.int (v2 ||| x2))) fun h14 =>
      ckc (pCls h14 a0) 0 <|
      bnd (fX0_byteAt a0 a2 h14) fun r7 h15 =>
      ckc (pCls h15 a0) 0 <|
      bnd (fX0_people a0 h15) fun r8 h16 =>
      jn (fun (x3 : Bool) (h17 : PH) =>
        jn (fun (h18 : PH) =>
          some (false, h18)) fun j217 =>
        if (bI x3) = 0 then
          j217 h17
        else
          ckc (pCls h17 a0) 0 <|
          bnd (fX0_byteAt a0 (a2 + 3) h17) fun r9 h19 =>
          if (9 : Int32) < r9 then
            j217 h19
          else
            ckc (pCls h19 a0) 0 <|
            bnd (fX0_byteAt a0 (a2 + 4) h19) fun r10 h20 =>
            if (3 : Int32) < r10 then
              j217 h20
            else
              some (true, h20)) fun j185 =>
      jn (fun (h21 : PH) =>
        j185 false h21) fun j184 =>
      if r8 < r7 then
        j184 h16
      else
        ckc (pCls h16 a0) 0 <|
        bnd (fX0_byteAt a0 (a2 + 1) h16) fun r11 h22 =>
        ckc (pCls h22 a0) 0 <|
        bnd (fX0_byteAt a0 (a2 + 2) h22) fun r12 h23 =>
        ckc (pCls h23 a0) 0 <|
        bnd (fX0_facts a0 h23) fun r13 h24 =>
        if ((1 : Int32) <<< (r13 &&& 31)) ≤ (r11 ||| r12) then
          j184 h24
        else
          ckc (pCls h24 a0) 0 <|
          bnd (fX0_byteAt a0 (a2 + 1) h24) fun r14 h25 =>
          ckc (pCls h25 a0) 0 <|
          bnd (fX0_byteAt a0 (a2 + 2) h25) fun r15 h26 =>
          if (r14 &&& r15) = 0 then
            j185 true h26
          else
            j184 h26) fun j122 =>
    if (r6 &&& 2) ≤ 0 then
      j122 0 h12
    else
      j122 ((1 : Int32) <<< (a1 &&& 31)) h12) fun j91 =>
  if (r5 &&& 1) ≤ 0 then
    j91 0 h9
  else
    j91 ((1 : Int32) <<< (a1 &&& 31)) h9
set_option maxHeartbeats 1000000 in
theorem kX0_personOn {l : Launch} {D : PD} {A : Nat → Prop} {cap : Nat × Nat} {a0 : Nat} {a1 : Int32} {a2 : Int32} {h h' : PH} {r : Bool} (hf : fX0_personOn a0 a1 a2 h = some (r, h')) : CMet l D A cap yX0_personOn cX0_personOn 4 (Option.some Jvm.ClassFile.FieldType.boolean) 3 [.ref a0, .int a1, .int a2] h h' (some (.int (bI r))) := by
  unfold fX0_personOn at hf
  refine p_head (own := RX0) (ini := false) (pn_X0 rfl) rfl (fun q => by cases q) (Nat.le_of_ble_eq_true rfl) (fun m Z cx sx H0 ls X hM hl => ?_)
  have G := X.g
  have hl : lv_has ls 4 [(0, .ref a0), (1, .int a1), (2, .int a2)] := hl
  refine g_aload_n G dX0_personOn_0 rfl (lv_at hl 0 rfl) ?_
  obtain ⟨p1, g1, hf⟩ := vA_open hf
  refine p_get (k := 10) X hM pc_0 (by decide) q458 rfl g1 dX0_personOn_1 ?_
  obtain ⟨p2, g2, hf⟩ := vA_open hf
  refine p_getN (k := 4) X hM pc_5 (by decide) q405 rfl g2 dX0_personOn_4 ?_
  refine g_iload_n G dX0_personOn_7 rfl (lv_at hl 1 rfl) ?_
  refine g_aload_n G dX0_personOn_8 rfl (lv_at hl 0 rfl) ?_
  refine g_iload_n G dX0_personOn_9 rfl (lv_at hl 2 rfl) ?_
  obtain ⟨b1, hf⟩ := ckc_open hf
  obtain ⟨r1, h1, g3, hf⟩ := bnd_open hf
  refine p_callV_r (ci := 0) (As := [.int a2]) (rest := [.int a1, .ref p2]) X hM hl rfl b1 pcy_X0_byteAt q1480 q1482 qs47 (kX0_byteAt g3) rfl (Nat.le_of_ble_eq_true rfl) (Nat.le_of_ble_eq_true rfl) rfl dX0_personOn_10 (fun H locs hM => ?_)
  refine g_iconst (v := 1) G dX0_personOn_13 rfl ?_
  refine g_isub G dX0_personOn_14 ?_
  obtain ⟨h2, g4, hf⟩ := bnv_open hf
  refine p_iast X hM g4 dX0_personOn_15 (fun H locs hM => ?_)
  refine g_aload_n G dX0_personOn_16 rfl (lv_at hl 0 rfl) ?_
  obtain ⟨p3, g5, hf⟩ := vA_open hf
  refine p_get (k := 10) X hM pc_0 (by decide) q458 rfl g5 dX0_personOn_17 ?_
  obtain ⟨p4, g6, hf⟩ := vA_open hf
  refine p_getN (k := 5) X hM pc_5 (by decide) q407 rfl g6 dX0_personOn_20 ?_
  refine g_iload_n G dX0_personOn_23 rfl (lv_at hl 1 rfl) ?_
  refine g_aload_n G dX0_personOn_24 rfl (lv_at hl 0 rfl) ?_
  refine g_iload_n G dX0_personOn_25 rfl (lv_at hl 2 rfl) ?_
  refine g_iconst (v := 1) G dX0_personOn_26 rfl ?_
  refine g_iadd G dX0_personOn_27 ?_
  obtain ⟨b2, hf⟩ := ckc_open hf
  obtain ⟨r2, h3, g7, hf⟩ := bnd_open hf
  refine p_callV_r (ci := 0) (As := [.int (a2 + 1)]) (rest := [.int a1, .ref p4]) X hM hl rfl b2 pcy_X0_byteAt q1480 q1482 qs47 (kX0_byteAt g7) rfl (Nat.le_of_ble_eq_true rfl) (Nat.le_of_ble_eq_true rfl) rfl dX0_personOn_28 (fun H locs hM => ?_)
  obtain ⟨h4, g8, hf⟩ := bnv_open hf
  refine p_iast X hM g8 dX0_personOn_31 (fun H locs hM => ?_)
  refine g_aload_n G dX0_personOn_32 rfl (lv_at hl 0 rfl) ?_
  obtain ⟨p5, g9, hf⟩ := vA_open hf
  refine p_get (k := 10) X hM pc_0 (by decide) q458 rfl g9 dX0_personOn_33 ?_
  obtain ⟨p6, g10, hf⟩ := vA_open hf
  refine p_getN (k := 6) X hM pc_5 (by decide) q409 rfl g10 dX0_personOn_36 ?_
  refine g_iload_n G dX0_personOn_39 rfl (lv_at hl 1 rfl) ?_
  refine g_aload_n G dX0_personOn_40 rfl (lv_at hl 0 rfl) ?_
  refine g_iload_n G dX0_personOn_41 rfl (lv_at hl 2 rfl) ?_
  refine g_iconst (v := 2) G dX0_personOn_42 rfl ?_
  refine g_iadd G dX0_personOn_43 ?_
  obtain ⟨b3, hf⟩ := ckc_open hf
  obtain ⟨r3, h5, g11, hf⟩ := bnd_open hf
  refine p_callV_r (ci := 0) (As := [.int (a2 + 2)]) (rest := [.int a1, .ref p6]) X hM hl rfl b3 pcy_X0_byteAt q1480 q1482 qs47 (kX0_byteAt g11) rfl (Nat.le_of_ble_eq_true rfl) (Nat.le_of_ble_eq_true rfl) rfl dX0_personOn_44 (fun H locs hM => ?_)
  obtain ⟨h6, g12, hf⟩ := bnv_open hf
  refine p_iast X hM g12 dX0_personOn_47 (fun H locs hM => ?_)
  refine g_aload_n G dX0_personOn_48 rfl (lv_at hl 0 rfl) ?_
  obtain ⟨p7, g13, hf⟩ := vA_open hf
  refine p_get (k := 10) X hM pc_0 (by decide) q458 rfl g13 dX0_personOn_49 ?_
  obtain ⟨p8, g14, hf⟩ := vA_open hf
  refine p_getN (k := 7) X hM pc_5 (by decide) q411 rfl g14 dX0_personOn_52 ?_
  refine g_iload_n G dX0_personOn_55 rfl (lv_at hl 1 rfl) ?_
  refine g_aload_n G dX0_personOn_56 rfl (lv_at hl 0 rfl) ?_
  refine g_iload_n G dX0_personOn_57 rfl (lv_at hl 2 rfl) ?_
  refine g_iconst (v := 3) G dX0_personOn_58 rfl ?_
  refine g_iadd G dX0_personOn_59 ?_
  obtain ⟨b4, hf⟩ := ckc_open hf
  obtain ⟨r4, h7, g15, hf⟩ := bnd_open hf
  refine p_callV_r (ci := 0) (As := [.int (a2 + 3)]) (rest := [.int a1, .ref p8]) X hM hl rfl b4 pcy_X0_byteAt q1480 q1482 qs47 (kX0_byteAt g15) rfl (Nat.le_of_ble_eq_true rfl) (Nat.le_of_ble_eq_true rfl) rfl dX0_personOn_60 (fun H locs hM => ?_)
  obtain ⟨h8, g16, hf⟩ := bnv_open hf
  refine p_iast X hM g16 dX0_personOn_63 (fun H locs hM => ?_)
  refine g_aload_n G dX0_personOn_64 rfl (lv_at hl 0 rfl) ?_
  obtain ⟨p9, g17, hf⟩ := vA_open hf
  refine p_get (k := 10) X hM pc_0 (by decide) q458 rfl g17 dX0_personOn_65 ?_
  refine g_dup G dX0_personOn_68 rfl ?_
  obtain ⟨v1, g18, hf⟩ := vI_open hf
  refine p_getN (k := 1) X hM pc_5 (by decide) q399 rfl g18 dX0_personOn_69 ?_
  refine g_aload_n G dX0_personOn_72 rfl (lv_at hl 0 rfl) ?_
  refine g_iload_n G dX0_personOn_73 rfl (lv_at hl 2 rfl) ?_
  refine g_iconst (v := 4) G dX0_personOn_74 rfl ?_
  refine g_iadd G dX0_personOn_75 ?_
  obtain ⟨b5, hf⟩ := ckc_open hf
  obtain ⟨r5, h9, g19, hf⟩ := bnd_open hf
  refine p_callV_r (ci := 0) (As := [.int (a2 + 4)]) (rest := [.int v1, .ref p9]) X hM hl rfl b5 pcy_X0_byteAt q1480 q1482 qs47 (kX0_byteAt g19) rfl (Nat.le_of_ble_eq_true rfl) (Nat.le_of_ble_eq_true rfl) rfl dX0_personOn_76 (fun H locs hM => ?_)
  refine g_iconst (v := 1) G dX0_personOn_79 rfl ?_
  refine g_iand G dX0_personOn_80 ?_
  obtain ⟨j91, ej91, hf⟩ := jn_open hf
  have J91 : ∀ (x1 : Int32) (h10 : PH) (H : Heap) (locs : List Loc), j91 x1 h10 = some (r, h') → PI D A cap H0 h10 H locs → ∀ ls : Array Slot, lv_has ls 4 [(0, .ref a0), (1, .int a1), (2, .int a2)] → Z H locs (cx H) (sx H) (F0 m 91 ls [.int x1, .int v1, .ref p9]) := by
    intro x1 h10 H locs hf hM ls hl
    rw [ej91] at hf
    refine g_ior G dX0_personOn_91 ?_
    obtain ⟨h11, g20, hf⟩ := bnv_open hf
    refine p_putN (k := 1) X hM pc_5 (by decide) q399 rfl rfl rfl rfl g20 dX0_personOn_92 (fun H locs hM => ?_)
    refine g_aload_n G dX0_personOn_95 rfl (lv_at hl 0 rfl) ?_
    obtain ⟨p10, g21, hf⟩ := vA_open hf
    refine p_get (k := 10) X hM pc_0 (by decide) q458 rfl g21 dX0_personOn_96 ?_
    refine g_dup G dX0_personOn_99 rfl ?_
    obtain ⟨v2, g22, hf⟩ := vI_open hf
    refine p_getN (k := 2) X hM pc_5 (by decide) q401 rfl g22 dX0_personOn_100 ?_
    refine g_aload_n G dX0_personOn_103 rfl (lv_at hl 0 rfl) ?_
    refine g_iload_n G dX0_personOn_104 rfl (lv_at hl 2 rfl) ?_
    refine g_iconst (v := 4) G dX0_personOn_105 rfl ?_
    refine g_iadd G dX0_personOn_106 ?_
    obtain ⟨b6, hf⟩ := ckc_open hf
    obtain ⟨r6, h12, g23, hf⟩ := bnd_open hf
    refine p_callV_r (ci := 0) (As := [.int (a2 + 4)]) (rest := [.int v2, .ref p10]) X hM hl rfl b6 pcy_X0_byteAt q1480 q1482 qs47 (kX0_byteAt g23) rfl (Nat.le_of_ble_eq_true rfl) (Nat.le_of_ble_eq_true rfl) rfl dX0_personOn_107 (fun H locs hM => ?_)
    refine g_iconst (v := 2) G dX0_personOn_110 rfl ?_
    refine g_iand G dX0_personOn_111 ?_
    obtain ⟨j122, ej122, hf⟩ := jn_open hf
    have J122 : ∀ (x2 : Int32) (h13 : PH) (H : Heap) (locs : List Loc), j122 x2 h13 = some (r, h') → PI D A cap H0 h13 H locs → ∀ ls : Array Slot, lv_has ls 4 [(0, .ref a0), (2, .int a2)] → Z H locs (cx H) (sx H) (F0 m 122 ls [.int x2, .int v2, .ref p10]) := by
      intro x2 h13 H locs hf hM ls hl
      rw [ej122] at hf
      refine g_ior G dX0_personOn_122 ?_
      obtain ⟨h14, g24, hf⟩ := bnv_open hf
      refine p_putN (k := 2) X hM pc_5 (by decide) q401 rfl rfl rfl rfl g24 dX0_personOn_123 (fun H locs hM => ?_)
      refine g_aload_n G dX0_personOn_126 rfl (lv_at hl 0 rfl) ?_
      refine g_iload_n G dX0_personOn_127 rfl (lv_at hl 1 rfl) ?_
      obtain ⟨b7, hf⟩ := ckc_open hf
      obtain ⟨r7, h15, g25, hf⟩ := bnd_open hf
      refine p_callV_r (ci := 0) (As := [.int a2]) (rest := []) X hM hl rfl b7 pcy_X0_byteAt q1480 q1482 qs47 (kX0_byteAt g25) rfl (Nat.le_of_ble_eq_true rfl) (Nat.le_of_ble_eq_true rfl) rfl dX0_personOn_128 (fun H locs hM => ?_)
      refine g_aload_n G dX0_personOn_131 rfl (lv_at hl 0 rfl) ?_
      obtain ⟨b8, hf⟩ := ckc_open hf
      obtain ⟨r8, h16, g26, hf⟩ := bnd_open hf
      refine p_callV_r (ci := 0) (As := []) (rest := [.int r7]) X hM hl rfl b8 pcy_X0_people q1227 q1208 qs34 (kX0_people g26) rfl (Nat.le_of_ble_eq_true rfl) (Nat.le_of_ble_eq_true rfl) rfl dX0_personOn_132 (fun H locs hM => ?_)
      obtain ⟨j185, ej185, hf⟩ := jn_open hf
      have J185 : ∀ (x3 : Bool) (h17 : PH) (H : Heap) (locs : List Loc), j185 x3 h17 = some (r, h') → PI D A cap H0 h17 H locs → ∀ ls : Array Slot, lv_has ls 4 [(0, .ref a0), (2, .int a2)] → Z H locs (cx H) (sx H) (F0 m 185 ls [.int (bI x3)]) := by
        intro x3 h17 H locs hf hM ls hl
        rw [ej185] at hf
        refine g_istore_n (i := 3) (lv' := [(3, .int (bI x3)), (0, .ref a0), (2, .int a2)]) G dX0_personOn_185 rfl hl (Nat.le_of_ble_eq_true rfl) rfl (fun ls hl => ?_)
        refine g_iload_n G dX0_personOn_186 rfl (lv_at hl 0 rfl) ?_
        obtain ⟨j217, ej217, hf⟩ := jn_open hf
        have J217 : ∀ (h18 : PH) (H : Heap) (locs : List Loc), j217 h18 = some (r, h') → PI D A cap H0 h18 H locs → ∀ ls : Array Slot, lv_has ls 4 [] → Z H locs (cx H) (sx H) (F0 m 217 ls []) := by
          intro h18 H locs hf hM ls hl
          rw [ej217] at hf
          refine g_iconst (v := 0) G dX0_personOn_217 rfl ?_
          exact p_zret X hM hf dX0_personOn_218
        refine g_if_eq (tgt := 217) G dX0_personOn_187 rfl (fun c1 => ?_) (fun c1 => ?_)
        · have hf := it_pos c1 hf
          exact J217 _ _ _ hf hM ls (lv_sub hl [] rfl)
        · have hf := it_neg c1 hf
          refine g_aload_n G dX0_personOn_190 rfl (lv_at hl 1 rfl) ?_
          refine g_iload_n G dX0_personOn_191 rfl (lv_at hl 2 rfl) ?_
          refine g_iconst (v := 3) G dX0_personOn_192 rfl ?_
          refine g_iadd G dX0_personOn_193 ?_
          obtain ⟨b9, hf⟩ := ckc_open hf
          obtain ⟨r9, h19, g27, hf⟩ := bnd_open hf
          refine p_callV_r (ci := 0) (As := [.int (a2 + 3)]) (rest := []) X hM hl rfl b9 pcy_X0_byteAt q1480 q1482 qs47 (kX0_byteAt g27) rfl (Nat.le_of_ble_eq_true rfl) (Nat.le_of_ble_eq_true rfl) rfl dX0_personOn_194 (fun H locs hM => ?_)
          refine g_bipush (v := 9) G dX0_personOn_197 rfl ?_
          refine g_icmp_gt (tgt := 217) G dX0_personOn_199 rfl (fun c2 => ?_) (fun c2 => ?_)
          · have hf := it_pos c2 hf
            exact J217 _ _ _ hf hM ls (lv_sub hl [] rfl)
          · have hf := it_neg c2 hf
            refine g_aload_n G dX0_personOn_202 rfl (lv_at hl 1 rfl) ?_
            refine g_iload_n G dX0_personOn_203 rfl (lv_at hl 2 rfl) ?_
            refine g_iconst (v := 4) G dX0_personOn_204 rfl ?_
            refine g_iadd G dX0_personOn_205 ?_
            obtain ⟨b10, hf⟩ := ckc_open hf
            obtain ⟨r10, h20, g28, hf⟩ := bnd_open hf
            refine p_callV_r (ci := 0) (As := [.int (a2 + 4)]) (rest := []) X hM hl rfl b10 pcy_X0_byteAt q1480 q1482 qs47 (kX0_byteAt g28) rfl (Nat.le_of_ble_eq_true rfl) (Nat.le_of_ble_eq_true rfl) rfl dX0_personOn_206 (fun H locs hM => ?_)
            refine g_iconst (v := 3) G dX0_personOn_209 rfl ?_
            refine g_icmp_gt (tgt := 217) G dX0_personOn_210 rfl (fun c3 => ?_) (fun c3 => ?_)
            · have hf := it_pos c3 hf
              exact J217 _ _ _ hf hM ls (lv_sub hl [] rfl)
            · have hf := it_neg c3 hf
              refine g_iconst (v := 1) G dX0_personOn_213 rfl ?_
              refine g_goto (tgt := 218) G dX0_personOn_214 rfl ?_
              exact p_zret X hM hf dX0_personOn_218
      obtain ⟨j184, ej184, hf⟩ := jn_open hf
      have J184 : ∀ (h21 : PH) (H : Heap) (locs : List Loc), j184 h21 = some (r, h') → PI D A cap H0 h21 H locs → ∀ ls : Array Slot, lv_has ls 4 [(0, .ref a0), (2, .int a2)] → Z H locs (cx H) (sx H) (F0 m 184 ls []) := by
        intro h21 H locs hf hM ls hl
        rw [ej184] at hf
        refine g_iconst (v := 0) G dX0_personOn_184 rfl ?_
        exact J185 _ _ _ _ hf hM ls (lv_sub hl [0, 1] rfl)
      refine g_icmp_gt (tgt := 184) G dX0_personOn_135 rfl (fun c4 => ?_) (fun c4 => ?_)
      · have hf := it_pos c4 hf
        exact J184 _ _ _ hf hM ls (lv_sub hl [0, 1] rfl)
      · have hf := it_neg c4 hf
        refine g_aload_n G dX0_personOn_138 rfl (lv_at hl 0 rfl) ?_
        refine g_iload_n G dX0_personOn_139 rfl (lv_at hl 1 rfl) ?_
        refine g_iconst (v := 1) G dX0_personOn_140 rfl ?_
        refine g_iadd G dX0_personOn_141 ?_
        obtain ⟨b11, hf⟩ := ckc_open hf
        obtain ⟨r11, h22, g29, hf⟩ := bnd_open hf
        refine p_callV_r (ci := 0) (As := [.int (a2 + 1)]) (rest := []) X hM hl rfl b11 pcy_X0_byteAt q1480 q1482 qs47 (kX0_byteAt g29) rfl (Nat.le_of_ble_eq_true rfl) (Nat.le_of_ble_eq_true rfl) rfl dX0_personOn_142 (fun H locs hM => ?_)
        refine g_aload_n G dX0_personOn_145 rfl (lv_at hl 0 rfl) ?_
        refine g_iload_n G dX0_personOn_146 rfl (lv_at hl 1 rfl) ?_
        refine g_iconst (v := 2) G dX0_personOn_147 rfl ?_
        refine g_iadd G dX0_personOn_148 ?_
        obtain ⟨b12, hf⟩ := ckc_open hf
        obtain ⟨r12, h23, g30, hf⟩ := bnd_open hf
        refine p_callV_r (ci := 0) (As := [.int (a2 + 2)]) (rest := [.int r11]) X hM hl rfl b12 pcy_X0_byteAt q1480 q1482 qs47 (kX0_byteAt g30) rfl (Nat.le_of_ble_eq_true rfl) (Nat.le_of_ble_eq_true rfl) rfl dX0_personOn_149 (fun H locs hM => ?_)
        refine g_ior G dX0_personOn_152 ?_
        refine g_iconst (v := 1) G dX0_personOn_153 rfl ?_
        refine g_aload_n G dX0_personOn_154 rfl (lv_at hl 0 rfl) ?_
        obtain ⟨b13, hf⟩ := ckc_open hf
        obtain ⟨r13, h24, g31, hf⟩ := bnd_open hf
        refine p_callV_r (ci := 0) (As := []) (rest := [.int 1, .int (r11 ||| r12)]) X hM hl rfl b13 pcy_X0_facts q1223 q1225 qs35 (kX0_facts g31) rfl (Nat.le_of_ble_eq_true rfl) (Nat.le_of_ble_eq_true rfl) rfl dX0_personOn_155 (fun H locs hM => ?_)
        refine g_ishl G dX0_personOn_158 ?_
        refine g_icmp_ge (tgt := 184) G dX0_personOn_159 rfl (fun c5 => ?_) (fun c5 => ?_)
        · have hf := it_pos c5 hf
          exact J184 _ _ _ hf hM ls (lv_sub hl [0, 1] rfl)
        · have hf := it_neg c5 hf
          refine g_aload_n G dX0_personOn_162 rfl (lv_at hl 0 rfl) ?_
          refine g_iload_n G dX0_personOn_163 rfl (lv_at hl 1 rfl) ?_
          refine g_iconst (v := 1) G dX0_personOn_164 rfl ?_
          refine g_iadd G dX0_personOn_165 ?_
          obtain ⟨b14, hf⟩ := ckc_open hf
          obtain ⟨r14, h25, g32, hf⟩ := bnd_open hf
          refine p_callV_r (ci := 0) (As := [.int (a2 + 1)]) (rest := []) X hM hl rfl b14 pcy_X0_byteAt q1480 q1482 qs47 (kX0_byteAt g32) rfl (Nat.le_of_ble_eq_true rfl) (Nat.le_of_ble_eq_true rfl) rfl dX0_personOn_166 (fun H locs hM => ?_)
          refine g_aload_n G dX0_personOn_169 rfl (lv_at hl 0 rfl) ?_
          refine g_iload_n G dX0_personOn_170 rfl (lv_at hl 1 rfl) ?_
          refine g_iconst (v := 2) G dX0_personOn_171 rfl ?_
          refine g_iadd G dX0_personOn_172 ?_
          obtain ⟨b15, hf⟩ := ckc_open hf
          obtain ⟨r15, h26, g33, hf⟩ := bnd_open hf
          refine p_callV_r (ci := 0) (As := [.int (a2 + 2)]) (rest := [.int r14]) X hM hl rfl b15 pcy_X0_byteAt q1480 q1482 qs47 (kX0_byteAt g33) rfl (Nat.le_of_ble_eq_true rfl) (Nat.le_of_ble_eq_true rfl) rfl dX0_personOn_173 (fun H locs hM => ?_)
          refine g_iand G dX0_personOn_176 ?_
          refine g_if_ne (tgt := 184) G dX0_personOn_177 rfl (fun c6 => ?_) (fun c6 => ?_)
          · have hf := it_neg c6 hf
            exact J184 _ _ _ hf hM ls (lv_sub hl [0, 1] rfl)
          · have hf := it_pos c6 hf
            refine g_iconst (v := 1) G dX0_personOn_180 rfl ?_
            refine g_goto (tgt := 185) G dX0_personOn_181 rfl ?_
            exact J185 _ _ _ _ hf hM ls (lv_sub hl [0, 1] rfl)
    refine g_if_le (tgt := 121) G dX0_personOn_112 rfl (fun c7 => ?_) (fun c7 => ?_)
    · have hf := it_pos c7 hf
      refine g_iconst (v := 0) G dX0_personOn_121 rfl ?_
      exact J122 _ _ _ _ hf hM ls (lv_sub hl [0, 2] rfl)
    · have hf := it_neg c7 hf
      refine g_iconst (v := 1) G dX0_personOn_115 rfl ?_
      refine g_iload_n G dX0_personOn_116 rfl (lv_at hl 1 rfl) ?_
      refine g_ishl G dX0_personOn_117 ?_
      refine g_goto (tgt := 122) G dX0_personOn_118 rfl ?_
      exact J122 _ _ _ _ hf hM ls (lv_sub hl [0, 2] rfl)
  refine g_if_le (tgt := 90) G dX0_personOn_81 rfl (fun c8 => ?_) (fun c8 => ?_)
  · have hf := it_pos c8 hf
    refine g_iconst (v := 0) G dX0_personOn_90 rfl ?_
    exact J91 _ _ _ _ hf hM ls (lv_sub hl [0, 1, 2] rfl)
  · have hf := it_neg c8 hf
    refine g_iconst (v := 1) G dX0_personOn_84 rfl ?_
    refine g_iload_n G dX0_personOn_85 rfl (lv_at hl 1 rfl) ?_
    refine g_ishl G dX0_personOn_86 ?_
    refine g_goto (tgt := 91) G dX0_personOn_87 rfl ?_
    exact J91 _ _ _ _ hf hM ls (lv_sub hl [0, 1, 2] rfl)
theorem pcy_X0_on : pcY yX0_on cX0_on 4 (Option.some Jvm.ClassFile.FieldType.boolean) 0 := ⟨q1609, q145, ⟨by decide +kernel, by decide +kernel, by decide +kernel⟩, Nat.le_of_ble_eq_true rfl⟩
noncomputable def fX0_on_L119 (a0 : Nat) (k176 : Bool → PH → Option (Bool × PH)) (s119 : Bool → Int32 → PH → Option (Bool × PH)) (x4 : Bool) (x5 : Int32) (h16 : PH) : Option (Bool × PH) :=
  ckc (pCls h16 a0) 0 <|
  bnd (fX0_people a0 h16) fun r6 h17 =>
  if r6 ≤ x5 then
    k176 x4 h17
  else
    if (bI x4) = 0 then
      k176 x4 h17
    else
      vA (pF h17 a0 0 10) fun p10 =>
      vA (pF h17 p10 5 4) fun p11 =>
      ob (pLd h17 p11 0 x5) fun v1 =>
      jn (fun (x6 : Bool) (h18 : PH) =>
        s119 x6 (x5 + 1) h18) fun j169 =>
      jn (fun (h19 : PH) =>
        j169 true h19) fun j164 =>
      if v1 = ((-1) : Int32) then
        j164 h17
      else
        vA (pF h17 a0 0 10) fun p12 =>
        vA (pF h17 a0 0 10) fun p13 =>
        vA (pF h17 p13 5 4) fun p14 =>
        ob (pLd h17 p14 0 x5) fun v2 =>
        ckc (pCls h17 p12) 5 <|
        bnd (fX5_isBy p12 v2 x5 h17) fun r7 h20 =>
        if (bI r7) = 0 then
          j164 h20
        else
          j169 false h20
noncomputable def fX0_on_L88 (a0 : Nat) (k117 : Bool → PH → Option (Bool × PH)) (s88 : Bool → Int32 → PH → Option (Bool × PH)) (x7 : Bool) (x8 : Int32) (h21 : PH) : Option (Bool × PH) :=
  ckc (pCls h21 a0) 0 <|
  bnd (fX0_people a0 h21) fun r8 h22 =>
  if r8 ≤ x8 then
    k117 x7 h22
  else
    if (bI x7) = 0 then
      k117 x7 h22
    else
      ckc (pCls h22 a0) 0 <|
      bnd (fX0_personOn a0 x8 ((2 : Int32) + ((5 : Int32) * x8)) h22) fun r9 h23 =>
      s88 r9 (x8 + 1) h23
noncomputable def fX0_on (a0 : Nat) (h : PH) : Option (Bool × PH) :=
  ckc (pCls h a0) 0 <|
  bnd (fX0_taken a0 h) fun r1 h1 =>
  ckc (pCls h1 a0) 0 <|
  bnd (fX0_people a0 h1) fun r2 h2 =>
  jn (fun (x1 : Bool) (h3 : PH) =>
    vA (pF h3 a0 0 10) fun p1 =>
    vA (pF h3 a0 0 9) fun p2 =>
    ckc (pCls h3 p1) 5 <|
    bnd (fX5_copy p1 p2 h3) fun p3 h4 =>
    bnv (pPut h4 p3 5 1 (.int 0)) fun h5 =>
    vA (pF h5 a0 0 10) fun p4 =>
    bnv (pPut h5 p4 5 2 (.int 0)) fun h6 =>
    jn (fun (x2 : Bool) (h7 : PH) =>
      jn (fun (x3 : Bool) (h8 : PH) =>
        if (bI x3) = 0 then
          ckc (pCls h8 a0) 0 <|
          bnd (fX0_refuses a0 5 h8) fun r5 h15 =>
          if r5 < 0 then
            some (false, h15)
          else
            some (true, h15)
        else
          vA (pF h8 a0 0 10) fun p5 =>
          ckc (pCls h8 a0) 0 <|
          bnd (fX0_byteAt a0 0 h8) fun r3 h9 =>
          ckc (pCls h9 a0) 0 <|
          bnd (fX0_byteAt a0 1 h9) fun r4 h10 =>
          bnv (pPut h10 p5 5 0 (.int ((r3 <<< (8 &&& 31)) ||| r4))) fun h11 =>
          vA (pF h11 a0 0 10) fun p6 =>
          bnv (pPut h11 p6 5 3 (.int 0)) fun h12 =>
          vA (pF h12 a0 0 9) fun p7 =>
          vA (pF h12 a0 0 10) fun p8 =>
          ckc (pCls h12 p7) 5 <|
          bnd (fX5_copy p7 p8 h12) fun p9 h13 =>
          bnv (pPut h13 a0 0 16 (.int 0)) fun h14 =>
          some (true, h14)) fun k176 =>
      fx (fX0_on_L119 a0 k176) (fun _ _ _ => none) FU x2 0 h7) fun k117 =>
    fx (fX0_on_L88 a0 k117) (fun _ _ _ => none) FU x1 0 h6) fun j62 =>
  jn (fun (h24 : PH) =>
    j62 false h24) fun j61 =>
  if r1 = ((3 : Int32) + ((5 : Int32) * r2)) then
    ckc (pCls h2 a0) 0 <|
    bnd (fX0_byteAt a0 (r1 - 1) h2) fun r10 h25 =>
    vA (pF h25 a0 0 1) fun p15 =>
    bnd (fX0_check p15 (r1 - 1) h25) fun r11 h26 =>
    if r10 = r11 then
      ckc (pCls h26 a0) 0 <|
      bnd (fX0_byteAt a0 0 h26) fun r12 h27 =>
      ckc (pCls h27 a0) 0 <|
      bnd (fX0_byteAt a0 1 h27) fun r13 h28 =>
      if (999 : Int32) < ((r12 <<< (8 &&& 31)) ||| r13) then
        j61 h28
      else
        j62 true h28
    else
      j61 h26
  else
    j61 h2
set_option maxHeartbeats 1000000 in
theorem kX0_on {l : Launch} {D : PD} {A : Nat → Prop} {cap : Nat × Nat} {a0 : Nat} {h h' : PH} {r : Bool} (hf : fX0_on a0 h = some (r, h')) : CMet l D A cap yX0_on cX0_on 4 (Option.some Jvm.ClassFile.FieldType.boolean) 4 [.ref a0] h h' (some (.int (bI r))) := by
  unfold fX0_on at hf
  refine p_head (own := RX0) (ini := false) (pn_X0 rfl) rfl (fun q => by cases q) (Nat.le_of_ble_eq_true rfl) (fun m Z cx sx H0 ls X hM hl => ?_)
  have G := X.g
  have hl : lv_has ls 4 [(0, .ref a0)] := hl
  refine g_aload_n G dX0_on_0 rfl (lv_at hl 0 rfl) ?_
  obtain ⟨b1, hf⟩ := ckc_open hf
  obtain ⟨r1, h1, g1, hf⟩ := bnd_open hf
  refine p_callV_r (ci := 0) (As := []) (rest := []) X hM hl rfl b1 pcy_X0_taken q533 q535 qs3 (kX0_taken g1) rfl (Nat.le_of_ble_eq_true rfl) (Nat.le_of_ble_eq_true rfl) rfl dX0_on_1 (fun H locs hM => ?_)
  refine g_istore_n (i := 1) (lv' := [(1, .int r1), (0, .ref a0)]) G dX0_on_4 rfl hl (Nat.le_of_ble_eq_true rfl) rfl (fun ls hl => ?_)
  refine g_iload_n G dX0_on_5 rfl (lv_at hl 0 rfl) ?_
  refine g_iconst (v := 3) G dX0_on_6 rfl ?_
  refine g_iconst (v := 5) G dX0_on_7 rfl ?_
  refine g_aload_n G dX0_on_8 rfl (lv_at hl 1 rfl) ?_
  obtain ⟨b2, hf⟩ := ckc_open hf
  obtain ⟨r2, h2, g2, hf⟩ := bnd_open hf
  refine p_callV_r (ci := 0) (As := []) (rest := [.int 5, .int 3, .int r1]) X hM hl rfl b2 pcy_X0_people q1227 q1208 qs34 (kX0_people g2) rfl (Nat.le_of_ble_eq_true rfl) (Nat.le_of_ble_eq_true rfl) rfl dX0_on_9 (fun H locs hM => ?_)
  refine g_imul G dX0_on_12 ?_
  refine g_iadd G dX0_on_13 ?_
  obtain ⟨j62, ej62, hf⟩ := jn_open hf
  have J62 : ∀ (x1 : Bool) (h3 : PH) (H : Heap) (locs : List Loc), j62 x1 h3 = some (r, h') → PI D A cap H0 h3 H locs → ∀ ls : Array Slot, lv_has ls 4 [(0, .ref a0)] → Z H locs (cx H) (sx H) (F0 m 62 ls [.int (bI x1)]) := by
    intro x1 h3 H locs hf hM ls hl
    rw [ej62] at hf
    refine g_istore_n (i := 2) (lv' := [(2, .int (bI x1)), (0, .ref a0)]) G dX0_on_62 rfl hl (Nat.le_of_ble_eq_true rfl) rfl (fun ls hl => ?_)
    refine g_aload_n G dX0_on_63 rfl (lv_at hl 1 rfl) ?_
    obtain ⟨p1, g3, hf⟩ := vA_open hf
    refine p_get (k := 10) X hM pc_0 (by decide) q458 rfl g3 dX0_on_64 ?_
    refine g_aload_n G dX0_on_67 rfl (lv_at hl 1 rfl) ?_
    obtain ⟨p2, g4, hf⟩ := vA_open hf
    refine p_get (k := 9) X hM pc_0 (by decide) q457 rfl g4 dX0_on_68 ?_
    obtain ⟨b3, hf⟩ := ckc_open hf
    obtain ⟨p3, h4, g5, hf⟩ := bnd_open hf
    refine p_callV_r (ci := 5) (As := [.ref p2]) (rest := []) X hM hl rfl b3 pcy_X5_copy q1422 q1423 q1424 (kX5_copy g5) rfl (Nat.le_of_ble_eq_true rfl) (Nat.le_of_ble_eq_true rfl) rfl dX0_on_71 (fun H locs hM => ?_)
    refine g_iconst (v := 0) G dX0_on_74 rfl ?_
    obtain ⟨h5, g6, hf⟩ := bnv_open hf
    refine p_putN (k := 1) X hM pc_5 (by decide) q399 rfl rfl rfl rfl g6 dX0_on_75 (fun H locs hM => ?_)
    refine g_aload_n G dX0_on_78 rfl (lv_at hl 1 rfl) ?_
    obtain ⟨p4, g7, hf⟩ := vA_open hf
    refine p_get (k := 10) X hM pc_0 (by decide) q458 rfl g7 dX0_on_79 ?_
    refine g_iconst (v := 0) G dX0_on_82 rfl ?_
    obtain ⟨h6, g8, hf⟩ := bnv_open hf
    refine p_putN (k := 2) X hM pc_5 (by decide) q401 rfl rfl rfl rfl g8 dX0_on_83 (fun H locs hM => ?_)
    refine g_iconst (v := 0) G dX0_on_86 rfl ?_
    refine g_istore_n (i := 3) (lv' := [(3, .int 0), (2, .int (bI x1)), (0, .ref a0)]) G dX0_on_87 rfl hl (Nat.le_of_ble_eq_true rfl) rfl (fun ls hl => ?_)
    obtain ⟨k117, ek117, hf⟩ := jn_open hf
    have K117 : ∀ (x2 : Bool) (h7 : PH) (H : Heap) (locs : List Loc), k117 x2 h7 = some (r, h') → PI D A cap H0 h7 H locs → ∀ ls : Array Slot, lv_has ls 4 [(0, .ref a0), (2, .int (bI x2))] → Z H locs (cx H) (sx H) (F0 m 117 ls []) := by
      intro x2 h7 H locs hf hM ls hl
      rw [ek117] at hf
      refine g_iconst (v := 0) G dX0_on_117 rfl ?_
      refine g_istore_n (i := 3) (lv' := [(3, .int 0), (0, .ref a0), (2, .int (bI x2))]) G dX0_on_118 rfl hl (Nat.le_of_ble_eq_true rfl) rfl (fun ls hl => ?_)
      obtain ⟨k176, ek176, hf⟩ := jn_open hf
      have K176 : ∀ (x3 : Bool) (h8 : PH) (H : Heap) (locs : List Loc), k176 x3 h8 = some (r, h') → PI D A cap H0 h8 H locs → ∀ ls : Array Slot, lv_has ls 4 [(0, .ref a0), (2, .int (bI x3))] → Z H locs (cx H) (sx H) (F0 m 176 ls []) := by
        intro x3 h8 H locs hf hM ls hl
        rw [ek176] at hf
        refine g_iload_n G dX0_on_176 rfl (lv_at hl 1 rfl) ?_
        refine g_if_ne (tgt := 194) G dX0_on_177 rfl (fun c1 => ?_) (fun c1 => ?_)
        · have hf := it_neg c1 hf
          refine g_aload_n G dX0_on_194 rfl (lv_at hl 0 rfl) ?_
          obtain ⟨p5, g9, hf⟩ := vA_open hf
          refine p_get (k := 10) X hM pc_0 (by decide) q458 rfl g9 dX0_on_195 ?_
          refine g_aload_n G dX0_on_198 rfl (lv_at hl 0 rfl) ?_
          refine g_iconst (v := 0) G dX0_on_199 rfl ?_
          obtain ⟨b4, hf⟩ := ckc_open hf
          obtain ⟨r3, h9, g10, hf⟩ := bnd_open hf
          refine p_callV_r (ci := 0) (As := [.int 0]) (rest := [.ref p5]) X hM hl rfl b4 pcy_X0_byteAt q1480 q1482 qs47 (kX0_byteAt g10) rfl (Nat.le_of_ble_eq_true rfl) (Nat.le_of_ble_eq_true rfl) rfl dX0_on_200 (fun H locs hM => ?_)
          refine g_bipush (v := 8) G dX0_on_203 rfl ?_
          refine g_ishl G dX0_on_205 ?_
          refine g_aload_n G dX0_on_206 rfl (lv_at hl 0 rfl) ?_
          refine g_iconst (v := 1) G dX0_on_207 rfl ?_
          obtain ⟨b5, hf⟩ := ckc_open hf
          obtain ⟨r4, h10, g11, hf⟩ := bnd_open hf
          refine p_callV_r (ci := 0) (As := [.int 1]) (rest := [.int (r3 <<< (8 &&& 31)), .ref p5]) X hM hl rfl b5 pcy_X0_byteAt q1480 q1482 qs47 (kX0_byteAt g11) rfl (Nat.le_of_ble_eq_true rfl) (Nat.le_of_ble_eq_true rfl) rfl dX0_on_208 (fun H locs hM => ?_)
          refine g_ior G dX0_on_211 ?_
          obtain ⟨h11, g12, hf⟩ := bnv_open hf
          refine p_putN (k := 0) X hM pc_5 (by decide) q397 rfl rfl rfl rfl g12 dX0_on_212 (fun H locs hM => ?_)
          refine g_aload_n G dX0_on_215 rfl (lv_at hl 0 rfl) ?_
          obtain ⟨p6, g13, hf⟩ := vA_open hf
          refine p_get (k := 10) X hM pc_0 (by decide) q458 rfl g13 dX0_on_216 ?_
          refine g_iconst (v := 0) G dX0_on_219 rfl ?_
          obtain ⟨h12, g14, hf⟩ := bnv_open hf
          refine p_putN (k := 3) X hM pc_5 (by decide) q403 rfl rfl rfl rfl g14 dX0_on_220 (fun H locs hM => ?_)
          refine g_aload_n G dX0_on_223 rfl (lv_at hl 0 rfl) ?_
          obtain ⟨p7, g15, hf⟩ := vA_open hf
          refine p_get (k := 9) X hM pc_0 (by decide) q457 rfl g15 dX0_on_224 ?_
          refine g_aload_n G dX0_on_227 rfl (lv_at hl 0 rfl) ?_
          obtain ⟨p8, g16, hf⟩ := vA_open hf
          refine p_get (k := 10) X hM pc_0 (by decide) q458 rfl g16 dX0_on_228 ?_
          obtain ⟨b6, hf⟩ := ckc_open hf
          obtain ⟨p9, h13, g17, hf⟩ := bnd_open hf
          refine p_callV_r (ci := 5) (As := [.ref p8]) (rest := []) X hM hl rfl b6 pcy_X5_copy q1422 q1423 q1424 (kX5_copy g17) rfl (Nat.le_of_ble_eq_true rfl) (Nat.le_of_ble_eq_true rfl) rfl dX0_on_231 (fun H locs hM => ?_)
          refine g_pop G dX0_on_234 rfl ?_
          refine g_aload_n G dX0_on_235 rfl (lv_at hl 0 rfl) ?_
          refine g_iconst (v := 0) G dX0_on_236 rfl ?_
          obtain ⟨h14, g18, hf⟩ := bnv_open hf
          refine p_put (k := 16) X hM pc_0 (by decide) q464 rfl rfl rfl rfl g18 dX0_on_237 (fun H locs hM => ?_)
          refine g_iconst (v := 1) G dX0_on_240 rfl ?_
          exact p_zret X hM hf dX0_on_241
        · have hf := it_pos c1 hf
          refine g_aload_n G dX0_on_180 rfl (lv_at hl 0 rfl) ?_
          refine g_iconst (v := 5) G dX0_on_181 rfl ?_
          obtain ⟨b7, hf⟩ := ckc_open hf
          obtain ⟨r5, h15, g19, hf⟩ := bnd_open hf
          refine p_callV_r (ci := 0) (As := [.int 5]) (rest := []) X hM hl rfl b7 pcy_X0_refuses q516 q518 qs1 (kX0_refuses g19) rfl (Nat.le_of_ble_eq_true rfl) (Nat.le_of_ble_eq_true rfl) rfl dX0_on_182 (fun H locs hM => ?_)
          refine g_if_lt (tgt := 192) G dX0_on_185 rfl (fun c2 => ?_) (fun c2 => ?_)
          · have hf := it_pos c2 hf
            refine g_iconst (v := 0) G dX0_on_192 rfl ?_
            exact p_zret X hM hf dX0_on_193
          · have hf := it_neg c2 hf
            refine g_iconst (v := 1) G dX0_on_188 rfl ?_
            refine g_goto (tgt := 193) G dX0_on_189 rfl ?_
            exact p_zret X hM hf dX0_on_193
      have L119 : ∀ (n : Nat) (x4 : Bool) (x5 : Int32) (h16 : PH) (H : Heap) (locs : List Loc), fx (fX0_on_L119 a0 k176) (fun _ _ _ => none) n x4 x5 h16 = some (r, h') → PI D A cap H0 h16 H locs → ∀ ls : Array Slot, lv_has ls 4 [(0, .ref a0), (2, .int (bI x4)), (3, .int x5)] → Z H locs (cx H) (sx H) (F0 m 119 ls []) := by
        intro n
        induction n with
        | zero => intro x4 x5 h16 H locs hf; exact absurd hf (by intro q; cases q)
        | succ n ih119 =>
          intro x4 x5 h16 H locs hf hM ls hl
          rw [fx_s] at hf
          generalize fx (fX0_on_L119 a0 k176) (fun _ _ _ => none) n = s119 at hf ih119
          unfold fX0_on_L119 at hf
          refine g_iload_n G dX0_on_119 rfl (lv_at hl 2 rfl) ?_
          refine g_aload_n G dX0_on_120 rfl (lv_at hl 0 rfl) ?_
          obtain ⟨b8, hf⟩ := ckc_open hf
          obtain ⟨r6, h17, g20, hf⟩ := bnd_open hf
          refine p_callV_r (ci := 0) (As := []) (rest := [.int x5]) X hM hl rfl b8 pcy_X0_people q1227 q1208 qs34 (kX0_people g20) rfl (Nat.le_of_ble_eq_true rfl) (Nat.le_of_ble_eq_true rfl) rfl dX0_on_121 (fun H locs hM => ?_)
          refine g_icmp_ge (tgt := 176) G dX0_on_124 rfl (fun c3 => ?_) (fun c3 => ?_)
          · have hf := it_pos c3 hf
            exact K176 _ _ _ _ hf hM ls (lv_sub hl [0, 1] rfl)
          · have hf := it_neg c3 hf
            refine g_iload_n G dX0_on_127 rfl (lv_at hl 1 rfl) ?_
            refine g_if_eq (tgt := 176) G dX0_on_128 rfl (fun c4 => ?_) (fun c4 => ?_)
            · have hf := it_pos c4 hf
              exact K176 _ _ _ _ hf hM ls (lv_sub hl [0, 1] rfl)
            · have hf := it_neg c4 hf
              refine g_aload_n G dX0_on_131 rfl (lv_at hl 0 rfl) ?_
              obtain ⟨p10, g21, hf⟩ := vA_open hf
              refine p_get (k := 10) X hM pc_0 (by decide) q458 rfl g21 dX0_on_132 ?_
              obtain ⟨p11, g22, hf⟩ := vA_open hf
              refine p_getN (k := 4) X hM pc_5 (by decide) q405 rfl g22 dX0_on_135 ?_
              refine g_iload_n G dX0_on_138 rfl (lv_at hl 2 rfl) ?_
              obtain ⟨v1, g23, hf⟩ := ob_open hf
              refine p_iald X hM g23 dX0_on_139 ?_
              refine g_iconst (v := (-1)) G dX0_on_140 rfl ?_
              obtain ⟨j169, ej169, hf⟩ := jn_open hf
              have J169 : ∀ (x6 : Bool) (h18 : PH) (H : Heap) (locs : List Loc), j169 x6 h18 = some (r, h') → PI D A cap H0 h18 H locs → ∀ ls : Array Slot, lv_has ls 4 [(0, .ref a0), (3, .int x5)] → Z H locs (cx H) (sx H) (F0 m 169 ls [.int (bI x6)]) := by
                intro x6 h18 H locs hf hM ls hl
                rw [ej169] at hf
                refine g_istore_n (i := 2) (lv' := [(2, .int (bI x6)), (0, .ref a0), (3, .int x5)]) G dX0_on_169 rfl hl (Nat.le_of_ble_eq_true rfl) rfl (fun ls hl => ?_)
                refine g_iinc (v := x5 + 1) (lv' := [(3, .int (x5 + 1)), (2, .int (bI x6)), (0, .ref a0)]) G dX0_on_170 hl (k := 2) rfl rfl (Nat.le_of_ble_eq_true rfl) rfl (fun ls hl => ?_)
                refine g_goto (tgt := 119) G dX0_on_173 rfl ?_
                exact ih119 _ _ _ _ _ hf hM ls (lv_sub hl [2, 1, 0] rfl)
              obtain ⟨j164, ej164, hf⟩ := jn_open hf
              have J164 : ∀ (h19 : PH) (H : Heap) (locs : List Loc), j164 h19 = some (r, h') → PI D A cap H0 h19 H locs → ∀ ls : Array Slot, lv_has ls 4 [(0, .ref a0), (3, .int x5)] → Z H locs (cx H) (sx H) (F0 m 164 ls []) := by
                intro h19 H locs hf hM ls hl
                rw [ej164] at hf
                refine g_iconst (v := 1) G dX0_on_164 rfl ?_
                refine g_goto (tgt := 169) G dX0_on_165 rfl ?_
                exact J169 _ _ _ _ hf hM ls (lv_sub hl [0, 1] rfl)
              refine g_icmp_eq (tgt := 164) G dX0_on_141 rfl (fun c5 => ?_) (fun c5 => ?_)
              · have hf := it_pos c5 hf
                exact J164 _ _ _ hf hM ls (lv_sub hl [0, 2] rfl)
              · have hf := it_neg c5 hf
                refine g_aload_n G dX0_on_144 rfl (lv_at hl 0 rfl) ?_
                obtain ⟨p12, g24, hf⟩ := vA_open hf
                refine p_get (k := 10) X hM pc_0 (by decide) q458 rfl g24 dX0_on_145 ?_
                refine g_aload_n G dX0_on_148 rfl (lv_at hl 0 rfl) ?_
                obtain ⟨p13, g25, hf⟩ := vA_open hf
                refine p_get (k := 10) X hM pc_0 (by decide) q458 rfl g25 dX0_on_149 ?_
                obtain ⟨p14, g26, hf⟩ := vA_open hf
                refine p_getN (k := 4) X hM pc_5 (by decide) q405 rfl g26 dX0_on_152 ?_
                refine g_iload_n G dX0_on_155 rfl (lv_at hl 2 rfl) ?_
                obtain ⟨v2, g27, hf⟩ := ob_open hf
                refine p_iald X hM g27 dX0_on_156 ?_
                refine g_iload_n G dX0_on_157 rfl (lv_at hl 2 rfl) ?_
                obtain ⟨b9, hf⟩ := ckc_open hf
                obtain ⟨r7, h20, g28, hf⟩ := bnd_open hf
                refine p_callV_r (ci := 5) (As := [.int v2, .int x5]) (rest := []) X hM hl rfl b9 pcy_X5_isBy q1460 q1461 q1462 (kX5_isBy g28) rfl (Nat.le_of_ble_eq_true rfl) (Nat.le_of_ble_eq_true rfl) rfl dX0_on_158 (fun H locs hM => ?_)
                refine g_if_ne (tgt := 168) G dX0_on_161 rfl (fun c6 => ?_) (fun c6 => ?_)
                · have hf := it_neg c6 hf
                  refine g_iconst (v := 0) G dX0_on_168 rfl ?_
                  exact J169 _ _ _ _ hf hM ls (lv_sub hl [0, 2] rfl)
                · have hf := it_pos c6 hf
                  exact J164 _ _ _ hf hM ls (lv_sub hl [0, 2] rfl)
      exact L119 FU _ _ _ _ _ hf hM ls (lv_sub hl [1, 2, 0] rfl)
    have L88 : ∀ (n : Nat) (x7 : Bool) (x8 : Int32) (h21 : PH) (H : Heap) (locs : List Loc), fx (fX0_on_L88 a0 k117) (fun _ _ _ => none) n x7 x8 h21 = some (r, h') → PI D A cap H0 h21 H locs → ∀ ls : Array Slot, lv_has ls 4 [(0, .ref a0), (2, .int (bI x7)), (3, .int x8)] → Z H locs (cx H) (sx H) (F0 m 88 ls []) := by
      intro n
      induction n with
      | zero => intro x7 x8 h21 H locs hf; exact absurd hf (by intro q; cases q)
      | succ n ih88 =>
        intro x7 x8 h21 H locs hf hM ls hl
        rw [fx_s] at hf
        generalize fx (fX0_on_L88 a0 k117) (fun _ _ _ => none) n = s88 at hf ih88
        unfold fX0_on_L88 at hf
        refine g_iload_n G dX0_on_88 rfl (lv_at hl 2 rfl) ?_
        refine g_aload_n G dX0_on_89 rfl (lv_at hl 0 rfl) ?_
        obtain ⟨b10, hf⟩ := ckc_open hf
        obtain ⟨r8, h22, g29, hf⟩ := bnd_open hf
        refine p_callV_r (ci := 0) (As := []) (rest := [.int x8]) X hM hl rfl b10 pcy_X0_people q1227 q1208 qs34 (kX0_people g29) rfl (Nat.le_of_ble_eq_true rfl) (Nat.le_of_ble_eq_true rfl) rfl dX0_on_90 (fun H locs hM => ?_)
        refine g_icmp_ge (tgt := 117) G dX0_on_93 rfl (fun c7 => ?_) (fun c7 => ?_)
        · have hf := it_pos c7 hf
          exact K117 _ _ _ _ hf hM ls (lv_sub hl [0, 1] rfl)
        · have hf := it_neg c7 hf
          refine g_iload_n G dX0_on_96 rfl (lv_at hl 1 rfl) ?_
          refine g_if_eq (tgt := 117) G dX0_on_97 rfl (fun c8 => ?_) (fun c8 => ?_)
          · have hf := it_pos c8 hf
            exact K117 _ _ _ _ hf hM ls (lv_sub hl [0, 1] rfl)
          · have hf := it_neg c8 hf
            refine g_aload_n G dX0_on_100 rfl (lv_at hl 0 rfl) ?_
            refine g_iload_n G dX0_on_101 rfl (lv_at hl 2 rfl) ?_
            refine g_iconst (v := 2) G dX0_on_102 rfl ?_
            refine g_iconst (v := 5) G dX0_on_103 rfl ?_
            refine g_iload_n G dX0_on_104 rfl (lv_at hl 2 rfl) ?_
            refine g_imul G dX0_on_105 ?_
            refine g_iadd G dX0_on_106 ?_
            obtain ⟨b11, hf⟩ := ckc_open hf
            obtain ⟨r9, h23, g30, hf⟩ := bnd_open hf
            refine p_callV_r (ci := 0) (As := [.int x8, .int ((2 : Int32) + ((5 : Int32) * x8))]) (rest := []) X hM hl rfl b11 pcy_X0_personOn q1610 q1612 qs54 (kX0_personOn g30) rfl (Nat.le_of_ble_eq_true rfl) (Nat.le_of_ble_eq_true rfl) rfl dX0_on_107 (fun H locs hM => ?_)
            refine g_istore_n (i := 2) (lv' := [(2, .int (bI r9)), (0, .ref a0), (3, .int x8)]) G dX0_on_110 rfl hl (Nat.le_of_ble_eq_true rfl) rfl (fun ls hl => ?_)
            refine g_iinc (v := x8 + 1) (lv' := [(3, .int (x8 + 1)), (2, .int (bI r9)), (0, .ref a0)]) G dX0_on_111 hl (k := 2) rfl rfl (Nat.le_of_ble_eq_true rfl) rfl (fun ls hl => ?_)
            refine g_goto (tgt := 88) G dX0_on_114 rfl ?_
            exact ih88 _ _ _ _ _ hf hM ls (lv_sub hl [2, 1, 0] rfl)
    exact L88 FU _ _ _ _ _ hf hM ls (lv_sub hl [2, 1, 0] rfl)
  obtain ⟨j61, ej61, hf⟩ := jn_open hf
  have J61 : ∀ (h24 : PH) (H : Heap) (locs : List Loc), j61 h24 = some (r, h') → PI D A cap H0 h24 H locs → ∀ ls : Array Slot, lv_has ls 4 [(0, .ref a0)] → Z H locs (cx H) (sx H) (F0 m 61 ls []) := by
    intro h24 H locs hf hM ls hl
    rw [ej61] at hf
    refine g_iconst (v := 0) G dX0_on_61 rfl ?_
    exact J62 _ _ _ _ hf hM ls (lv_sub hl [0] rfl)
  refine g_icmp_ne (tgt := 61) G dX0_on_14 rfl (fun c9 => ?_) (fun c9 => ?_)
  · have hf := it_neg c9 hf
    exact J61 _ _ _ hf hM ls (lv_sub hl [1] rfl)
  · have hf := it_pos c9 hf
    refine g_aload_n G dX0_on_17 rfl (lv_at hl 1 rfl) ?_
    refine g_iload_n G dX0_on_18 rfl (lv_at hl 0 rfl) ?_
    refine g_iconst (v := 1) G dX0_on_19 rfl ?_
    refine g_isub G dX0_on_20 ?_
    obtain ⟨b12, hf⟩ := ckc_open hf
    obtain ⟨r10, h25, g31, hf⟩ := bnd_open hf
    refine p_callV_r (ci := 0) (As := [.int (r1 - 1)]) (rest := []) X hM hl rfl b12 pcy_X0_byteAt q1480 q1482 qs47 (kX0_byteAt g31) rfl (Nat.le_of_ble_eq_true rfl) (Nat.le_of_ble_eq_true rfl) rfl dX0_on_21 (fun H locs hM => ?_)
    refine g_aload_n G dX0_on_24 rfl (lv_at hl 1 rfl) ?_
    obtain ⟨p15, g32, hf⟩ := vA_open hf
    refine p_get (k := 1) X hM pc_0 (by decide) q448 rfl g32 dX0_on_25 ?_
    refine g_iload_n G dX0_on_28 rfl (lv_at hl 0 rfl) ?_
    refine g_iconst (v := 1) G dX0_on_29 rfl ?_
    refine g_isub G dX0_on_30 ?_
    obtain ⟨r11, h26, g33, hf⟩ := bnd_open hf
    refine p_callS_r (As := [.ref p15, .int (r1 - 1)]) (rest := [.int r10]) X hM hl pcy_X0_check q1599 q1600 (kX0_check g33) rfl (Nat.le_of_ble_eq_true rfl) (Nat.le_of_ble_eq_true rfl) rfl dX0_on_31 (fun H locs hM => ?_)
    refine g_icmp_ne (tgt := 61) G dX0_on_34 rfl (fun c10 => ?_) (fun c10 => ?_)
    · have hf := it_neg c10 hf
      exact J61 _ _ _ hf hM ls (lv_sub hl [1] rfl)
    · have hf := it_pos c10 hf
      refine g_aload_n G dX0_on_37 rfl (lv_at hl 1 rfl) ?_
      refine g_iconst (v := 0) G dX0_on_38 rfl ?_
      obtain ⟨b13, hf⟩ := ckc_open hf
      obtain ⟨r12, h27, g34, hf⟩ := bnd_open hf
      refine p_callV_r (ci := 0) (As := [.int 0]) (rest := []) X hM hl rfl b13 pcy_X0_byteAt q1480 q1482 qs47 (kX0_byteAt g34) rfl (Nat.le_of_ble_eq_true rfl) (Nat.le_of_ble_eq_true rfl) rfl dX0_on_39 (fun H locs hM => ?_)
      refine g_bipush (v := 8) G dX0_on_42 rfl ?_
      refine g_ishl G dX0_on_44 ?_
      refine g_aload_n G dX0_on_45 rfl (lv_at hl 1 rfl) ?_
      refine g_iconst (v := 1) G dX0_on_46 rfl ?_
      obtain ⟨b14, hf⟩ := ckc_open hf
      obtain ⟨r13, h28, g35, hf⟩ := bnd_open hf
      refine p_callV_r (ci := 0) (As := [.int 1]) (rest := [.int (r12 <<< (8 &&& 31))]) X hM hl rfl b14 pcy_X0_byteAt q1480 q1482 qs47 (kX0_byteAt g35) rfl (Nat.le_of_ble_eq_true rfl) (Nat.le_of_ble_eq_true rfl) rfl dX0_on_47 (fun H locs hM => ?_)
      refine g_ior G dX0_on_50 ?_
      refine g_sipush (v := 999) G dX0_on_51 rfl ?_
      refine g_icmp_gt (tgt := 61) G dX0_on_54 rfl (fun c11 => ?_) (fun c11 => ?_)
      · have hf := it_pos c11 hf
        exact J61 _ _ _ hf hM ls (lv_sub hl [1] rfl)
      · have hf := it_neg c11 hf
        refine g_iconst (v := 1) G dX0_on_57 rfl ?_
        refine g_goto (tgt := 62) G dX0_on_58 rfl ?_
        exact J62 _ _ _ _ hf hM ls (lv_sub hl [1] rfl)
theorem pcy_X0_status : pcY yX0_status cX0_status 2 (Option.some Jvm.ClassFile.FieldType.int) 1 := ⟨q1617, q145, ⟨by decide +kernel, by decide +kernel, by decide +kernel⟩, Nat.le_of_ble_eq_true rfl⟩
noncomputable def fX0_status (a0 : Nat) (a1 : Int32) (h : PH) : Option (Int32 × PH) :=
  bnd (fX0_is a1 0 5 h) fun r1 h1 =>
  if (bI r1) = 0 then
    some ((-1), h1)
  else
    vA (pF h1 a0 0 8) fun p1 =>
    ob (pLd h1 p1 0 a1) fun v1 =>
    some (v1, h1)
set_option maxHeartbeats 1000000 in
theorem kX0_status {l : Launch} {D : PD} {A : Nat → Prop} {cap : Nat × Nat} {a0 : Nat} {a1 : Int32} {h h' : PH} {r : Int32} (hf : fX0_status a0 a1 h = some (r, h')) : CMet l D A cap yX0_status cX0_status 2 (Option.some Jvm.ClassFile.FieldType.int) 2 [.ref a0, .int a1] h h' (some (.int r)) := by
  unfold fX0_status at hf
  refine p_head (own := RX0) (ini := false) (pn_X0 rfl) rfl (fun q => by cases q) (Nat.le_of_ble_eq_true rfl) (fun m Z cx sx H0 ls X hM hl => ?_)
  have G := X.g
  have hl : lv_has ls 2 [(0, .ref a0), (1, .int a1)] := hl
  refine g_iload_n G dX0_status_0 rfl (lv_at hl 1 rfl) ?_
  refine g_iconst (v := 0) G dX0_status_1 rfl ?_
  refine g_iconst (v := 5) G dX0_status_2 rfl ?_
  obtain ⟨r1, h1, g1, hf⟩ := bnd_open hf
  refine p_callS_r (As := [.int a1, .int 0, .int 5]) (rest := []) X hM hl pcy_X0_is q1243 q794 (kX0_is g1) rfl (Nat.le_of_ble_eq_true rfl) (Nat.le_of_ble_eq_true rfl) rfl dX0_status_3 (fun H locs hM => ?_)
  refine g_if_eq (tgt := 18) G dX0_status_6 rfl (fun c1 => ?_) (fun c1 => ?_)
  · have hf := it_pos c1 hf
    refine g_iconst (v := (-1)) G dX0_status_18 rfl ?_
    exact p_iret X hM hf dX0_status_19
  · have hf := it_neg c1 hf
    refine g_aload_n G dX0_status_9 rfl (lv_at hl 0 rfl) ?_
    obtain ⟨p1, g2, hf⟩ := vA_open hf
    refine p_get (k := 8) X hM pc_0 (by decide) q456 rfl g2 dX0_status_10 ?_
    refine g_iload_n G dX0_status_13 rfl (lv_at hl 1 rfl) ?_
    obtain ⟨v1, g3, hf⟩ := ob_open hf
    refine p_iald X hM g3 dX0_status_14 ?_
    refine g_goto (tgt := 19) G dX0_status_15 rfl ?_
    exact p_iret X hM hf dX0_status_19
