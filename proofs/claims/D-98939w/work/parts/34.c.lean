/-! PART 34.c (printed by dc.py, mkc.py) -/
set_option maxRecDepth 100000
theorem pcy_X2_wrong : pcY yX2_wrong cX2_wrong 3 (Option.some (Jvm.ClassFile.FieldType.object "PupilsPupil$Fault")) 2 := ⟨q558, q150, ⟨by decide +kernel, by decide +kernel, by decide +kernel⟩, Nat.le_of_ble_eq_true rfl⟩
noncomputable def fX2_wrong (a0 : Nat) (a1 : Int32) (a2 : Int32) (h : PH) : Option (Nat × PH) :=
  vA (pF h a0 2 0) fun p1 =>
  bnv (pPut h p1 3 6 (.int a1)) fun h1 =>
  vA (pF h1 a0 2 0) fun p2 =>
  bnv (pPut h1 p2 3 7 (.int a2)) fun h2 =>
  vA (pF h2 a0 2 0) fun p3 =>
  some (p3, h2)
set_option maxHeartbeats 1000000 in
theorem kX2_wrong {l : Launch} {D : PD} {A : Nat → Prop} {cap : Nat × Nat} {a0 : Nat} {a1 : Int32} {a2 : Int32} {h h' : PH} {r : Nat} (hf : fX2_wrong a0 a1 a2 h = some (r, h')) : CMet l D A cap yX2_wrong cX2_wrong 3 (Option.some (Jvm.ClassFile.FieldType.object "PupilsPupil$Fault")) 1 [.ref a0, .int a1, .int a2] h h' (some (.ref r)) := by
  unfold fX2_wrong at hf
  refine p_head (own := RX2) (ini := false) (pn_X2 rfl) rfl (fun q => by cases q) (Nat.le_of_ble_eq_true rfl) (fun m Z cx sx H0 ls X hM hl => ?_)
  have G := X.g
  have hl : lv_has ls 3 [(0, .ref a0), (1, .int a1), (2, .int a2)] := hl
  refine g_aload_n G dX2_wrong_0 rfl (lv_at hl 0 rfl) ?_
  obtain ⟨p1, g1, hf⟩ := vA_open hf
  refine p_get (k := 0) X hM pc_2 (by decide) q349 rfl g1 dX2_wrong_1 ?_
  refine g_iload_n G dX2_wrong_4 rfl (lv_at hl 1 rfl) ?_
  obtain ⟨h1, g2, hf⟩ := bnv_open hf
  refine p_putN (k := 6) X hM pc_3 (by decide) q327 rfl rfl rfl rfl g2 dX2_wrong_5 (fun H locs hM => ?_)
  refine g_aload_n G dX2_wrong_8 rfl (lv_at hl 0 rfl) ?_
  obtain ⟨p2, g3, hf⟩ := vA_open hf
  refine p_get (k := 0) X hM pc_2 (by decide) q349 rfl g3 dX2_wrong_9 ?_
  refine g_iload_n G dX2_wrong_12 rfl (lv_at hl 2 rfl) ?_
  obtain ⟨h2, g4, hf⟩ := bnv_open hf
  refine p_putN (k := 7) X hM pc_3 (by decide) q329 rfl rfl rfl rfl g4 dX2_wrong_13 (fun H locs hM => ?_)
  refine g_aload_n G dX2_wrong_16 rfl (lv_at hl 0 rfl) ?_
  obtain ⟨p3, g5, hf⟩ := vA_open hf
  refine p_get (k := 0) X hM pc_2 (by decide) q349 rfl g5 dX2_wrong_17 ?_
  exact p_aret X (Or.inl ⟨_, rfl⟩) hM hf dX2_wrong_20
theorem pcy_X2_byteAt : pcY yX2_byteAt cX2_byteAt 2 (Option.some Jvm.ClassFile.FieldType.int) 1 := ⟨q550, q150, ⟨by decide +kernel, by decide +kernel, by decide +kernel⟩, Nat.le_of_ble_eq_true rfl⟩
noncomputable def fX2_byteAt (a0 : Nat) (a1 : Int32) (h : PH) : Option (Int32 × PH) :=
  jn (fun (h1 : PH) =>
    some ((-1), h1)) fun j28 =>
  if a1 < 0 then
    j28 h
  else
    vI (pF h a0 2 1) fun v1 =>
    if v1 ≤ a1 then
      j28 h
    else
      vA (pF h a0 2 7) fun p1 =>
      vA (pF h p1 0 1) fun p2 =>
      ob (pLd h p2 2 a1) fun v2 =>
      some ((v2 &&& 255), h)
set_option maxHeartbeats 1000000 in
theorem kX2_byteAt {l : Launch} {D : PD} {A : Nat → Prop} {cap : Nat × Nat} {a0 : Nat} {a1 : Int32} {h h' : PH} {r : Int32} (hf : fX2_byteAt a0 a1 h = some (r, h')) : CMet l D A cap yX2_byteAt cX2_byteAt 2 (Option.some Jvm.ClassFile.FieldType.int) 1 [.ref a0, .int a1] h h' (some (.int r)) := by
  unfold fX2_byteAt at hf
  refine p_head (own := RX2) (ini := false) (pn_X2 rfl) rfl (fun q => by cases q) (Nat.le_of_ble_eq_true rfl) (fun m Z cx sx H0 ls X hM hl => ?_)
  have G := X.g
  have hl : lv_has ls 2 [(0, .ref a0), (1, .int a1)] := hl
  refine g_iload_n G dX2_byteAt_0 rfl (lv_at hl 1 rfl) ?_
  obtain ⟨j28, ej28, hf⟩ := jn_open hf
  have J28 : ∀ (h1 : PH) (H : Heap) (locs : List Loc), j28 h1 = some (r, h') → PI D A cap H0 h1 H locs → ∀ ls : Array Slot, lv_has ls 2 [] → Z H locs (cx H) (sx H) (F0 m 28 ls []) := by
    intro h1 H locs hf hM ls hl
    rw [ej28] at hf
    refine g_iconst (v := (-1)) G dX2_byteAt_28 rfl ?_
    exact p_iret X hM hf dX2_byteAt_29
  refine g_if_lt (tgt := 28) G dX2_byteAt_1 rfl (fun c1 => ?_) (fun c1 => ?_)
  · have hf := it_pos c1 hf
    exact J28 _ _ _ hf hM ls (lv_sub hl [] rfl)
  · have hf := it_neg c1 hf
    refine g_iload_n G dX2_byteAt_4 rfl (lv_at hl 1 rfl) ?_
    refine g_aload_n G dX2_byteAt_5 rfl (lv_at hl 0 rfl) ?_
    obtain ⟨v1, g1, hf⟩ := vI_open hf
    refine p_get (k := 1) X hM pc_2 (by decide) q350 rfl g1 dX2_byteAt_6 ?_
    refine g_icmp_ge (tgt := 28) G dX2_byteAt_9 rfl (fun c2 => ?_) (fun c2 => ?_)
    · have hf := it_pos c2 hf
      exact J28 _ _ _ hf hM ls (lv_sub hl [] rfl)
    · have hf := it_neg c2 hf
      refine g_aload_n G dX2_byteAt_12 rfl (lv_at hl 0 rfl) ?_
      obtain ⟨p1, g2, hf⟩ := vA_open hf
      refine p_get (k := 7) X hM pc_2 (by decide) q356 rfl g2 dX2_byteAt_13 ?_
      obtain ⟨p2, g3, hf⟩ := vA_open hf
      refine p_getN (k := 1) X hM pc_0 (by decide) q447 rfl g3 dX2_byteAt_16 ?_
      refine g_iload_n G dX2_byteAt_19 rfl (lv_at hl 1 rfl) ?_
      obtain ⟨v2, g4, hf⟩ := ob_open hf
      refine p_bald X hM g4 dX2_byteAt_20 ?_
      refine g_sipush (v := 255) G dX2_byteAt_21 rfl ?_
      refine g_iand G dX2_byteAt_24 ?_
      refine g_goto (tgt := 29) G dX2_byteAt_25 rfl ?_
      exact p_iret X hM hf dX2_byteAt_29
theorem pcy_X2_here : pcY yX2_here cX2_here 1 (Option.some Jvm.ClassFile.FieldType.int) 0 := ⟨q546, q150, ⟨by decide +kernel, by decide +kernel, by decide +kernel⟩, Nat.le_of_ble_eq_true rfl⟩
noncomputable def fX2_here_L0 (a0 : Nat) (k39 : PH → Option (Int32 × PH)) (s0 : PH → Option (Int32 × PH)) (h3 : PH) : Option (Int32 × PH) :=
  vI (pF h3 a0 2 2) fun v2 =>
  ckc (pCls h3 a0) 2 <|
  bnd (fX2_byteAt a0 v2 h3) fun r2 h4 =>
  jn (fun (h5 : PH) =>
    vI (pF h5 a0 2 2) fun v3 =>
    bnv (pPut h5 a0 2 2 (.int (v3 + 1))) fun h6 =>
    s0 h6) fun j26 =>
  if r2 = (32 : Int32) then
    j26 h4
  else
    vI (pF h4 a0 2 2) fun v4 =>
    ckc (pCls h4 a0) 2 <|
    bnd (fX2_byteAt a0 v4 h4) fun r3 h7 =>
    if r3 = (10 : Int32) then
      j26 h7
    else
      k39 h7
noncomputable def fX2_here (a0 : Nat) (h : PH) : Option (Int32 × PH) :=
  jn (fun (h1 : PH) =>
    vI (pF h1 a0 2 2) fun v1 =>
    ckc (pCls h1 a0) 2 <|
    bnd (fX2_byteAt a0 v1 h1) fun r1 h2 =>
    some (r1, h2)) fun k39 =>
  fx (fX2_here_L0 a0 k39) (fun _ => none) FU  h
set_option maxHeartbeats 1000000 in
theorem kX2_here {l : Launch} {D : PD} {A : Nat → Prop} {cap : Nat × Nat} {a0 : Nat} {h h' : PH} {r : Int32} (hf : fX2_here a0 h = some (r, h')) : CMet l D A cap yX2_here cX2_here 1 (Option.some Jvm.ClassFile.FieldType.int) 2 [.ref a0] h h' (some (.int r)) := by
  unfold fX2_here at hf
  refine p_head (own := RX2) (ini := false) (pn_X2 rfl) rfl (fun q => by cases q) (Nat.le_of_ble_eq_true rfl) (fun m Z cx sx H0 ls X hM hl => ?_)
  have G := X.g
  have hl : lv_has ls 1 [(0, .ref a0)] := hl
  obtain ⟨k39, ek39, hf⟩ := jn_open hf
  have K39 : ∀ (h1 : PH) (H : Heap) (locs : List Loc), k39 h1 = some (r, h') → PI D A cap H0 h1 H locs → ∀ ls : Array Slot, lv_has ls 1 [(0, .ref a0)] → Z H locs (cx H) (sx H) (F0 m 39 ls []) := by
    intro h1 H locs hf hM ls hl
    rw [ek39] at hf
    refine g_aload_n G dX2_here_39 rfl (lv_at hl 0 rfl) ?_
    refine g_aload_n G dX2_here_40 rfl (lv_at hl 0 rfl) ?_
    obtain ⟨v1, g1, hf⟩ := vI_open hf
    refine p_get (k := 2) X hM pc_2 (by decide) q351 rfl g1 dX2_here_41 ?_
    obtain ⟨b1, hf⟩ := ckc_open hf
    obtain ⟨r1, h2, g2, hf⟩ := bnd_open hf
    refine p_callV_r (ci := 2) (As := [.int v1]) (rest := []) X hM hl rfl b1 pcy_X2_byteAt q547 q549 qs5 (kX2_byteAt g2) rfl (Nat.le_of_ble_eq_true rfl) (Nat.le_of_ble_eq_true rfl) rfl dX2_here_44 (fun H locs hM => ?_)
    exact p_iret X hM hf dX2_here_47
  have L0 : ∀ (n : Nat) (h3 : PH) (H : Heap) (locs : List Loc), fx (fX2_here_L0 a0 k39) (fun _ => none) n h3 = some (r, h') → PI D A cap H0 h3 H locs → ∀ ls : Array Slot, lv_has ls 1 [(0, .ref a0)] → Z H locs (cx H) (sx H) (F0 m 0 ls []) := by
    intro n
    induction n with
    | zero => intro h3 H locs hf; exact absurd hf (by intro q; cases q)
    | succ n ih0 =>
      intro h3 H locs hf hM ls hl
      rw [fx_s] at hf
      generalize fx (fX2_here_L0 a0 k39) (fun _ => none) n = s0 at hf ih0
      unfold fX2_here_L0 at hf
      refine g_aload_n G dX2_here_0 rfl (lv_at hl 0 rfl) ?_
      refine g_aload_n G dX2_here_1 rfl (lv_at hl 0 rfl) ?_
      obtain ⟨v2, g3, hf⟩ := vI_open hf
      refine p_get (k := 2) X hM pc_2 (by decide) q351 rfl g3 dX2_here_2 ?_
      obtain ⟨b2, hf⟩ := ckc_open hf
      obtain ⟨r2, h4, g4, hf⟩ := bnd_open hf
      refine p_callV_r (ci := 2) (As := [.int v2]) (rest := []) X hM hl rfl b2 pcy_X2_byteAt q547 q549 qs5 (kX2_byteAt g4) rfl (Nat.le_of_ble_eq_true rfl) (Nat.le_of_ble_eq_true rfl) rfl dX2_here_5 (fun H locs hM => ?_)
      refine g_bipush (v := 32) G dX2_here_8 rfl ?_
      obtain ⟨j26, ej26, hf⟩ := jn_open hf
      have J26 : ∀ (h5 : PH) (H : Heap) (locs : List Loc), j26 h5 = some (r, h') → PI D A cap H0 h5 H locs → ∀ ls : Array Slot, lv_has ls 1 [(0, .ref a0)] → Z H locs (cx H) (sx H) (F0 m 26 ls []) := by
        intro h5 H locs hf hM ls hl
        rw [ej26] at hf
        refine g_aload_n G dX2_here_26 rfl (lv_at hl 0 rfl) ?_
        refine g_dup G dX2_here_27 rfl ?_
        obtain ⟨v3, g5, hf⟩ := vI_open hf
        refine p_get (k := 2) X hM pc_2 (by decide) q351 rfl g5 dX2_here_28 ?_
        refine g_iconst (v := 1) G dX2_here_31 rfl ?_
        refine g_iadd G dX2_here_32 ?_
        obtain ⟨h6, g6, hf⟩ := bnv_open hf
        refine p_put (k := 2) X hM pc_2 (by decide) q351 rfl rfl rfl rfl g6 dX2_here_33 (fun H locs hM => ?_)
        refine g_goto (tgt := 0) G dX2_here_36 rfl ?_
        exact ih0 _ _ _ hf hM ls (lv_sub hl [0] rfl)
      refine g_icmp_eq (tgt := 26) G dX2_here_10 rfl (fun c1 => ?_) (fun c1 => ?_)
      · have hf := it_pos c1 hf
        exact J26 _ _ _ hf hM ls (lv_sub hl [0] rfl)
      · have hf := it_neg c1 hf
        refine g_aload_n G dX2_here_13 rfl (lv_at hl 0 rfl) ?_
        refine g_aload_n G dX2_here_14 rfl (lv_at hl 0 rfl) ?_
        obtain ⟨v4, g7, hf⟩ := vI_open hf
        refine p_get (k := 2) X hM pc_2 (by decide) q351 rfl g7 dX2_here_15 ?_
        obtain ⟨b3, hf⟩ := ckc_open hf
        obtain ⟨r3, h7, g8, hf⟩ := bnd_open hf
        refine p_callV_r (ci := 2) (As := [.int v4]) (rest := []) X hM hl rfl b3 pcy_X2_byteAt q547 q549 qs5 (kX2_byteAt g8) rfl (Nat.le_of_ble_eq_true rfl) (Nat.le_of_ble_eq_true rfl) rfl dX2_here_18 (fun H locs hM => ?_)
        refine g_bipush (v := 10) G dX2_here_21 rfl ?_
        refine g_icmp_ne (tgt := 39) G dX2_here_23 rfl (fun c2 => ?_) (fun c2 => ?_)
        · have hf := it_neg c2 hf
          exact K39 _ _ _ hf hM ls (lv_sub hl [0] rfl)
        · have hf := it_pos c2 hf
          exact J26 _ _ _ hf hM ls (lv_sub hl [0] rfl)
  exact L0 FU _ _ _ hf hM ls (lv_sub hl [0] rfl)
theorem pcy_X2_takes : pcY yX2_takes cX2_takes 3 (Option.some Jvm.ClassFile.FieldType.boolean) 1 := ⟨q1183, q150, ⟨by decide +kernel, by decide +kernel, by decide +kernel⟩, Nat.le_of_ble_eq_true rfl⟩
noncomputable def fX2_takes (a0 : Nat) (a1 : Int32) (h : PH) : Option (Bool × PH) :=
  ckc (pCls h a0) 2 <|
  bnd (fX2_here a0 h) fun r1 h1 =>
  jn (fun (x1 : Bool) (h2 : PH) =>
    vI (pF h2 a0 2 2) fun v1 =>
    jn (fun (x2 : Bool) (h3 : PH) =>
      bnv (pPut h3 a0 2 2 (.int (v1 + (bI x2)))) fun h4 =>
      some (x1, h4)) fun j28 =>
    if (bI x1) = 0 then
      j28 false h2
    else
      j28 true h2) fun j13 =>
  if r1 = a1 then
    j13 true h1
  else
    j13 false h1
set_option maxHeartbeats 1000000 in
theorem kX2_takes {l : Launch} {D : PD} {A : Nat → Prop} {cap : Nat × Nat} {a0 : Nat} {a1 : Int32} {h h' : PH} {r : Bool} (hf : fX2_takes a0 a1 h = some (r, h')) : CMet l D A cap yX2_takes cX2_takes 3 (Option.some Jvm.ClassFile.FieldType.boolean) 3 [.ref a0, .int a1] h h' (some (.int (bI r))) := by
  unfold fX2_takes at hf
  refine p_head (own := RX2) (ini := false) (pn_X2 rfl) rfl (fun q => by cases q) (Nat.le_of_ble_eq_true rfl) (fun m Z cx sx H0 ls X hM hl => ?_)
  have G := X.g
  have hl : lv_has ls 3 [(0, .ref a0), (1, .int a1)] := hl
  refine g_aload_n G dX2_takes_0 rfl (lv_at hl 0 rfl) ?_
  obtain ⟨b1, hf⟩ := ckc_open hf
  obtain ⟨r1, h1, g1, hf⟩ := bnd_open hf
  refine p_callV_r (ci := 2) (As := []) (rest := []) X hM hl rfl b1 pcy_X2_here q543 q545 qs4 (kX2_here g1) rfl (Nat.le_of_ble_eq_true rfl) (Nat.le_of_ble_eq_true rfl) rfl dX2_takes_1 (fun H locs hM => ?_)
  refine g_iload_n G dX2_takes_4 rfl (lv_at hl 1 rfl) ?_
  obtain ⟨j13, ej13, hf⟩ := jn_open hf
  have J13 : ∀ (x1 : Bool) (h2 : PH) (H : Heap) (locs : List Loc), j13 x1 h2 = some (r, h') → PI D A cap H0 h2 H locs → ∀ ls : Array Slot, lv_has ls 3 [(0, .ref a0)] → Z H locs (cx H) (sx H) (F0 m 13 ls [.int (bI x1)]) := by
    intro x1 h2 H locs hf hM ls hl
    rw [ej13] at hf
    refine g_istore_n (i := 2) (lv' := [(2, .int (bI x1)), (0, .ref a0)]) G dX2_takes_13 rfl hl (Nat.le_of_ble_eq_true rfl) rfl (fun ls hl => ?_)
    refine g_aload_n G dX2_takes_14 rfl (lv_at hl 1 rfl) ?_
    refine g_dup G dX2_takes_15 rfl ?_
    obtain ⟨v1, g2, hf⟩ := vI_open hf
    refine p_get (k := 2) X hM pc_2 (by decide) q351 rfl g2 dX2_takes_16 ?_
    refine g_iload_n G dX2_takes_19 rfl (lv_at hl 0 rfl) ?_
    obtain ⟨j28, ej28, hf⟩ := jn_open hf
    have J28 : ∀ (x2 : Bool) (h3 : PH) (H : Heap) (locs : List Loc), j28 x2 h3 = some (r, h') → PI D A cap H0 h3 H locs → ∀ ls : Array Slot, lv_has ls 3 [(2, .int (bI x1))] → Z H locs (cx H) (sx H) (F0 m 28 ls [.int (bI x2), .int v1, .ref a0]) := by
      intro x2 h3 H locs hf hM ls hl
      rw [ej28] at hf
      refine g_iadd G dX2_takes_28 ?_
      obtain ⟨h4, g3, hf⟩ := bnv_open hf
      refine p_put (k := 2) X hM pc_2 (by decide) q351 rfl rfl rfl rfl g3 dX2_takes_29 (fun H locs hM => ?_)
      refine g_iload_n G dX2_takes_32 rfl (lv_at hl 0 rfl) ?_
      exact p_zret X hM hf dX2_takes_33
    refine g_if_eq (tgt := 27) G dX2_takes_20 rfl (fun c1 => ?_) (fun c1 => ?_)
    · have hf := it_pos c1 hf
      refine g_iconst (v := 0) G dX2_takes_27 rfl ?_
      exact J28 _ _ _ _ hf hM ls (lv_sub hl [0] rfl)
    · have hf := it_neg c1 hf
      refine g_iconst (v := 1) G dX2_takes_23 rfl ?_
      refine g_goto (tgt := 28) G dX2_takes_24 rfl ?_
      exact J28 _ _ _ _ hf hM ls (lv_sub hl [0] rfl)
  refine g_icmp_ne (tgt := 12) G dX2_takes_5 rfl (fun c2 => ?_) (fun c2 => ?_)
  · have hf := it_neg c2 hf
    refine g_iconst (v := 0) G dX2_takes_12 rfl ?_
    exact J13 _ _ _ _ hf hM ls (lv_sub hl [0] rfl)
  · have hf := it_pos c2 hf
    refine g_iconst (v := 1) G dX2_takes_8 rfl ?_
    refine g_goto (tgt := 13) G dX2_takes_9 rfl ?_
    exact J13 _ _ _ _ hf hM ls (lv_sub hl [0] rfl)
theorem pcy_X2_must : pcY yX2_must cX2_must 2 none 1 := ⟨q976, q150, ⟨by decide +kernel, by decide +kernel, by decide +kernel⟩, Nat.le_of_ble_eq_true rfl⟩
noncomputable def fX2_must (a0 : Nat) (a1 : Int32) (h : PH) : Option ((Unit ⊕ Nat) × PH) :=
  ckc (pCls h a0) 2 <|
  bnd (fX2_here a0 h) fun r1 h1 =>
  if r1 = a1 then
    vI (pF h1 a0 2 2) fun v1 =>
    bnv (pPut h1 a0 2 2 (.int (v1 + 1))) fun h2 =>
    some (.inl (), h2)
  else
    vI (pF h1 a0 2 2) fun v2 =>
    ckc (pCls h1 a0) 2 <|
    bnd (fX2_wrong a0 1 v2 h1) fun p1 h3 =>
    some (.inr p1, h3)
set_option maxHeartbeats 1000000 in
theorem kX2_must {l : Launch} {D : PD} {A : Nat → Prop} {cap : Nat × Nat} {a0 : Nat} {a1 : Int32} {h h' : PH} (hf : fX2_must a0 a1 h = some (.inl (), h')) : CMet l D A cap yX2_must cX2_must 2 none 3 [.ref a0, .int a1] h h' (none) := by
  unfold fX2_must at hf
  refine p_head (own := RX2) (ini := false) (pn_X2 rfl) rfl (fun q => by cases q) (Nat.le_of_ble_eq_true rfl) (fun m Z cx sx H0 ls X hM hl => ?_)
  have G := X.g
  have hl : lv_has ls 2 [(0, .ref a0), (1, .int a1)] := hl
  refine g_aload_n G dX2_must_0 rfl (lv_at hl 0 rfl) ?_
  obtain ⟨b1, hf⟩ := ckc_open hf
  obtain ⟨r1, h1, g1, hf⟩ := bnd_open hf
  refine p_callV_r (ci := 2) (As := []) (rest := []) X hM hl rfl b1 pcy_X2_here q543 q545 qs4 (kX2_here g1) rfl (Nat.le_of_ble_eq_true rfl) (Nat.le_of_ble_eq_true rfl) rfl dX2_must_1 (fun H locs hM => ?_)
  refine g_iload_n G dX2_must_4 rfl (lv_at hl 1 rfl) ?_
  refine g_icmp_eq (tgt := 18) G dX2_must_5 rfl (fun c1 => ?_) (fun c1 => ?_)
  · have hf := it_pos c1 hf
    refine g_aload_n G dX2_must_18 rfl (lv_at hl 0 rfl) ?_
    refine g_dup G dX2_must_19 rfl ?_
    obtain ⟨v1, g2, hf⟩ := vI_open hf
    refine p_get (k := 2) X hM pc_2 (by decide) q351 rfl g2 dX2_must_20 ?_
    refine g_iconst (v := 1) G dX2_must_23 rfl ?_
    refine g_iadd G dX2_must_24 ?_
    obtain ⟨h2, g3, hf⟩ := bnv_open hf
    refine p_put (k := 2) X hM pc_2 (by decide) q351 rfl rfl rfl rfl g3 dX2_must_25 (fun H locs hM => ?_)
    cases hf
    exact p_vret X hM rfl dX2_must_28
  · have hf := it_neg c1 hf
    refine g_aload_n G dX2_must_8 rfl (lv_at hl 0 rfl) ?_
    refine g_iconst (v := 1) G dX2_must_9 rfl ?_
    refine g_aload_n G dX2_must_10 rfl (lv_at hl 0 rfl) ?_
    obtain ⟨v2, g4, hf⟩ := vI_open hf
    refine p_get (k := 2) X hM pc_2 (by decide) q351 rfl g4 dX2_must_11 ?_
    obtain ⟨b2, hf⟩ := ckc_open hf
    obtain ⟨p1, h3, g5, hf⟩ := bnd_open hf
    refine p_callV_r (ci := 2) (As := [.int 1, .int v2]) (rest := []) X hM hl rfl b2 pcy_X2_wrong q555 q557 qs7 (kX2_wrong g5) rfl (Nat.le_of_ble_eq_true rfl) (Nat.le_of_ble_eq_true rfl) rfl dX2_must_14 (fun H locs hM => ?_)
    exact absurd hf (by intro z; cases z)
set_option maxHeartbeats 1000000 in
theorem xX2_must {l : Launch} {D : PD} {A : Nat → Prop} {cap : Nat × Nat} {a0 : Nat} {a1 : Int32} {h h' : PH} {q : Nat} (hf : fX2_must a0 a1 h = some (.inr q, h')) : XMet l D A cap yX2_must cX2_must 2 none 3 [.ref a0, .int a1] h h' (q) := by
  unfold fX2_must at hf
  refine p_headT (own := RX2) (ini := false) (pn_X2 rfl) rfl (fun q => by cases q) (Nat.le_of_ble_eq_true rfl) (fun m Z cx sx H0 ls X XT hM hl => ?_)
  have G := X.g
  have hl : lv_has ls 2 [(0, .ref a0), (1, .int a1)] := hl
  refine g_aload_n G dX2_must_0 rfl (lv_at hl 0 rfl) ?_
  obtain ⟨b1, hf⟩ := ckc_open hf
  obtain ⟨r1, h1, g1, hf⟩ := bnd_open hf
  refine p_callV_r (ci := 2) (As := []) (rest := []) X hM hl rfl b1 pcy_X2_here q543 q545 qs4 (kX2_here g1) rfl (Nat.le_of_ble_eq_true rfl) (Nat.le_of_ble_eq_true rfl) rfl dX2_must_1 (fun H locs hM => ?_)
  refine g_iload_n G dX2_must_4 rfl (lv_at hl 1 rfl) ?_
  refine g_icmp_eq (tgt := 18) G dX2_must_5 rfl (fun c1 => ?_) (fun c1 => ?_)
  · have hf := it_pos c1 hf
    refine g_aload_n G dX2_must_18 rfl (lv_at hl 0 rfl) ?_
    refine g_dup G dX2_must_19 rfl ?_
    obtain ⟨v1, g2, hf⟩ := vI_open hf
    refine p_get (k := 2) X hM pc_2 (by decide) q351 rfl g2 dX2_must_20 ?_
    refine g_iconst (v := 1) G dX2_must_23 rfl ?_
    refine g_iadd G dX2_must_24 ?_
    obtain ⟨h2, g3, hf⟩ := bnv_open hf
    refine p_put (k := 2) X hM pc_2 (by decide) q351 rfl rfl rfl rfl g3 dX2_must_25 (fun H locs hM => ?_)
    exact absurd hf (by intro z; cases z)
  · have hf := it_neg c1 hf
    refine g_aload_n G dX2_must_8 rfl (lv_at hl 0 rfl) ?_
    refine g_iconst (v := 1) G dX2_must_9 rfl ?_
    refine g_aload_n G dX2_must_10 rfl (lv_at hl 0 rfl) ?_
    obtain ⟨v2, g4, hf⟩ := vI_open hf
    refine p_get (k := 2) X hM pc_2 (by decide) q351 rfl g4 dX2_must_11 ?_
    obtain ⟨b2, hf⟩ := ckc_open hf
    obtain ⟨p1, h3, g5, hf⟩ := bnd_open hf
    refine p_callV_r (ci := 2) (As := [.int 1, .int v2]) (rest := []) X hM hl rfl b2 pcy_X2_wrong q555 q557 qs7 (kX2_wrong g5) rfl (Nat.le_of_ble_eq_true rfl) (Nat.le_of_ble_eq_true rfl) rfl dX2_must_14 (fun H locs hM => ?_)
    cases hf
    exact p_athrow XT hM dX2_must_17
theorem pcy_X2_parted : pcY yX2_parted cX2_parted 1 none 0 := ⟨q569, q150, ⟨by decide +kernel, by decide +kernel, by decide +kernel⟩, Nat.le_of_ble_eq_true rfl⟩
noncomputable def fX2_parted (a0 : Nat) (h : PH) : Option ((Unit ⊕ Nat) × PH) :=
  vI (pF h a0 2 2) fun v1 =>
  ckc (pCls h a0) 2 <|
  bnd (fX2_byteAt a0 (v1 - 1) h) fun r1 h1 =>
  bnd (fX0_isLetter r1 h1) fun r2 h2 =>
  jn (fun (h3 : PH) =>
    vI (pF h3 a0 2 2) fun v2 =>
    ckc (pCls h3 a0) 2 <|
    bnd (fX2_wrong a0 1 v2 h3) fun p1 h4 =>
    some (.inr p1, h4)) fun j32 =>
  if (bI r2) = 0 then
    vI (pF h2 a0 2 2) fun v3 =>
    ckc (pCls h2 a0) 2 <|
    bnd (fX2_byteAt a0 (v3 - 1) h2) fun r3 h5 =>
    bnd (fX0_isDigit r3 h5) fun r4 h6 =>
    if (bI r4) = 0 then
      some (.inl (), h6)
    else
      j32 h6
  else
    j32 h2
set_option maxHeartbeats 1000000 in
theorem kX2_parted {l : Launch} {D : PD} {A : Nat → Prop} {cap : Nat × Nat} {a0 : Nat} {h h' : PH} (hf : fX2_parted a0 h = some (.inl (), h')) : CMet l D A cap yX2_parted cX2_parted 1 none 2 [.ref a0] h h' (none) := by
  unfold fX2_parted at hf
  refine p_head (own := RX2) (ini := false) (pn_X2 rfl) rfl (fun q => by cases q) (Nat.le_of_ble_eq_true rfl) (fun m Z cx sx H0 ls X hM hl => ?_)
  have G := X.g
  have hl : lv_has ls 1 [(0, .ref a0)] := hl
  refine g_aload_n G dX2_parted_0 rfl (lv_at hl 0 rfl) ?_
  refine g_aload_n G dX2_parted_1 rfl (lv_at hl 0 rfl) ?_
  obtain ⟨v1, g1, hf⟩ := vI_open hf
  refine p_get (k := 2) X hM pc_2 (by decide) q351 rfl g1 dX2_parted_2 ?_
  refine g_iconst (v := 1) G dX2_parted_5 rfl ?_
  refine g_isub G dX2_parted_6 ?_
  obtain ⟨b1, hf⟩ := ckc_open hf
  obtain ⟨r1, h1, g2, hf⟩ := bnd_open hf
  refine p_callV_r (ci := 2) (As := [.int (v1 - 1)]) (rest := []) X hM hl rfl b1 pcy_X2_byteAt q547 q549 qs5 (kX2_byteAt g2) rfl (Nat.le_of_ble_eq_true rfl) (Nat.le_of_ble_eq_true rfl) rfl dX2_parted_7 (fun H locs hM => ?_)
  obtain ⟨r2, h2, g3, hf⟩ := bnd_open hf
  refine p_callSN_r (As := [.int r1]) (rest := []) X hM hl pcy_X0_isLetter q563 q564 (kX0_isLetter g3) rfl (Nat.le_of_ble_eq_true rfl) (Nat.le_of_ble_eq_true rfl) rfl dX2_parted_10 (fun H locs hM => ?_)
  obtain ⟨j32, ej32, hf⟩ := jn_open hf
  have J32 : ∀ (h3 : PH) (H : Heap) (locs : List Loc), j32 h3 = some (.inl (), h') → PI D A cap H0 h3 H locs → ∀ ls : Array Slot, lv_has ls 1 [(0, .ref a0)] → Z H locs (cx H) (sx H) (F0 m 32 ls []) := by
    intro h3 H locs hf hM ls hl
    rw [ej32] at hf
    refine g_aload_n G dX2_parted_32 rfl (lv_at hl 0 rfl) ?_
    refine g_iconst (v := 1) G dX2_parted_33 rfl ?_
    refine g_aload_n G dX2_parted_34 rfl (lv_at hl 0 rfl) ?_
    obtain ⟨v2, g4, hf⟩ := vI_open hf
    refine p_get (k := 2) X hM pc_2 (by decide) q351 rfl g4 dX2_parted_35 ?_
    obtain ⟨b2, hf⟩ := ckc_open hf
    obtain ⟨p1, h4, g5, hf⟩ := bnd_open hf
    refine p_callV_r (ci := 2) (As := [.int 1, .int v2]) (rest := []) X hM hl rfl b2 pcy_X2_wrong q555 q557 qs7 (kX2_wrong g5) rfl (Nat.le_of_ble_eq_true rfl) (Nat.le_of_ble_eq_true rfl) rfl dX2_parted_38 (fun H locs hM => ?_)
    exact absurd hf (by intro z; cases z)
  refine g_if_ne (tgt := 32) G dX2_parted_13 rfl (fun c1 => ?_) (fun c1 => ?_)
  · have hf := it_neg c1 hf
    exact J32 _ _ _ hf hM ls (lv_sub hl [0] rfl)
  · have hf := it_pos c1 hf
    refine g_aload_n G dX2_parted_16 rfl (lv_at hl 0 rfl) ?_
    refine g_aload_n G dX2_parted_17 rfl (lv_at hl 0 rfl) ?_
    obtain ⟨v3, g6, hf⟩ := vI_open hf
    refine p_get (k := 2) X hM pc_2 (by decide) q351 rfl g6 dX2_parted_18 ?_
    refine g_iconst (v := 1) G dX2_parted_21 rfl ?_
    refine g_isub G dX2_parted_22 ?_
    obtain ⟨b3, hf⟩ := ckc_open hf
    obtain ⟨r3, h5, g7, hf⟩ := bnd_open hf
    refine p_callV_r (ci := 2) (As := [.int (v3 - 1)]) (rest := []) X hM hl rfl b3 pcy_X2_byteAt q547 q549 qs5 (kX2_byteAt g7) rfl (Nat.le_of_ble_eq_true rfl) (Nat.le_of_ble_eq_true rfl) rfl dX2_parted_23 (fun H locs hM => ?_)
    obtain ⟨r4, h6, g8, hf⟩ := bnd_open hf
    refine p_callSN_r (As := [.int r3]) (rest := []) X hM hl pcy_X0_isDigit q570 q571 (kX0_isDigit g8) rfl (Nat.le_of_ble_eq_true rfl) (Nat.le_of_ble_eq_true rfl) rfl dX2_parted_26 (fun H locs hM => ?_)
    refine g_if_eq (tgt := 42) G dX2_parted_29 rfl (fun c2 => ?_) (fun c2 => ?_)
    · have hf := it_pos c2 hf
      cases hf
      exact p_vret X hM rfl dX2_parted_42
    · have hf := it_neg c2 hf
      exact J32 _ _ _ hf hM ls (lv_sub hl [0] rfl)
set_option maxHeartbeats 1000000 in
theorem xX2_parted {l : Launch} {D : PD} {A : Nat → Prop} {cap : Nat × Nat} {a0 : Nat} {h h' : PH} {q : Nat} (hf : fX2_parted a0 h = some (.inr q, h')) : XMet l D A cap yX2_parted cX2_parted 1 none 2 [.ref a0] h h' (q) := by
  unfold fX2_parted at hf
  refine p_headT (own := RX2) (ini := false) (pn_X2 rfl) rfl (fun q => by cases q) (Nat.le_of_ble_eq_true rfl) (fun m Z cx sx H0 ls X XT hM hl => ?_)
  have G := X.g
  have hl : lv_has ls 1 [(0, .ref a0)] := hl
  refine g_aload_n G dX2_parted_0 rfl (lv_at hl 0 rfl) ?_
  refine g_aload_n G dX2_parted_1 rfl (lv_at hl 0 rfl) ?_
  obtain ⟨v1, g1, hf⟩ := vI_open hf
  refine p_get (k := 2) X hM pc_2 (by decide) q351 rfl g1 dX2_parted_2 ?_
  refine g_iconst (v := 1) G dX2_parted_5 rfl ?_
  refine g_isub G dX2_parted_6 ?_
  obtain ⟨b1, hf⟩ := ckc_open hf
  obtain ⟨r1, h1, g2, hf⟩ := bnd_open hf
  refine p_callV_r (ci := 2) (As := [.int (v1 - 1)]) (rest := []) X hM hl rfl b1 pcy_X2_byteAt q547 q549 qs5 (kX2_byteAt g2) rfl (Nat.le_of_ble_eq_true rfl) (Nat.le_of_ble_eq_true rfl) rfl dX2_parted_7 (fun H locs hM => ?_)
  obtain ⟨r2, h2, g3, hf⟩ := bnd_open hf
  refine p_callSN_r (As := [.int r1]) (rest := []) X hM hl pcy_X0_isLetter q563 q564 (kX0_isLetter g3) rfl (Nat.le_of_ble_eq_true rfl) (Nat.le_of_ble_eq_true rfl) rfl dX2_parted_10 (fun H locs hM => ?_)
  obtain ⟨j32, ej32, hf⟩ := jn_open hf
  have J32 : ∀ (h3 : PH) (H : Heap) (locs : List Loc), j32 h3 = some (.inr q, h') → PI D A cap H0 h3 H locs → ∀ ls : Array Slot, lv_has ls 1 [(0, .ref a0)] → Z H locs (cx H) (sx H) (F0 m 32 ls []) := by
    intro h3 H locs hf hM ls hl
    rw [ej32] at hf
    refine g_aload_n G dX2_parted_32 rfl (lv_at hl 0 rfl) ?_
    refine g_iconst (v := 1) G dX2_parted_33 rfl ?_
    refine g_aload_n G dX2_parted_34 rfl (lv_at hl 0 rfl) ?_
    obtain ⟨v2, g4, hf⟩ := vI_open hf
    refine p_get (k := 2) X hM pc_2 (by decide) q351 rfl g4 dX2_parted_35 ?_
    obtain ⟨b2, hf⟩ := ckc_open hf
    obtain ⟨p1, h4, g5, hf⟩ := bnd_open hf
    refine p_callV_r (ci := 2) (As := [.int 1, .int v2]) (rest := []) X hM hl rfl b2 pcy_X2_wrong q555 q557 qs7 (kX2_wrong g5) rfl (Nat.le_of_ble_eq_true rfl) (Nat.le_of_ble_eq_true rfl) rfl dX2_parted_38 (fun H locs hM => ?_)
    cases hf
    exact p_athrow XT hM dX2_parted_41
  refine g_if_ne (tgt := 32) G dX2_parted_13 rfl (fun c1 => ?_) (fun c1 => ?_)
  · have hf := it_neg c1 hf
    exact J32 _ _ _ hf hM ls (lv_sub hl [0] rfl)
  · have hf := it_pos c1 hf
    refine g_aload_n G dX2_parted_16 rfl (lv_at hl 0 rfl) ?_
    refine g_aload_n G dX2_parted_17 rfl (lv_at hl 0 rfl) ?_
    obtain ⟨v3, g6, hf⟩ := vI_open hf
    refine p_get (k := 2) X hM pc_2 (by decide) q351 rfl g6 dX2_parted_18 ?_
    refine g_iconst (v := 1) G dX2_parted_21 rfl ?_
    refine g_isub G dX2_parted_22 ?_
    obtain ⟨b3, hf⟩ := ckc_open hf
    obtain ⟨r3, h5, g7, hf⟩ := bnd_open hf
    refine p_callV_r (ci := 2) (As := [.int (v3 - 1)]) (rest := []) X hM hl rfl b3 pcy_X2_byteAt q547 q549 qs5 (kX2_byteAt g7) rfl (Nat.le_of_ble_eq_true rfl) (Nat.le_of_ble_eq_true rfl) rfl dX2_parted_23 (fun H locs hM => ?_)
    obtain ⟨r4, h6, g8, hf⟩ := bnd_open hf
    refine p_callSN_r (As := [.int r3]) (rest := []) X hM hl pcy_X0_isDigit q570 q571 (kX0_isDigit g8) rfl (Nat.le_of_ble_eq_true rfl) (Nat.le_of_ble_eq_true rfl) rfl dX2_parted_26 (fun H locs hM => ?_)
    refine g_if_eq (tgt := 42) G dX2_parted_29 rfl (fun c2 => ?_) (fun c2 => ?_)
    · have hf := it_pos c2 hf
      exact absurd hf (by intro z; cases z)
    · have hf := it_neg c2 hf
      exact J32 _ _ _ hf hM ls (lv_sub hl [0] rfl)
theorem pcy_X2_word : pcY yX2_word cX2_word 3 (Option.some (Jvm.ClassFile.FieldType.object "java/lang/String")) 0 := ⟨q562, q150, ⟨by decide +kernel, by decide +kernel, by decide +kernel⟩, Nat.le_of_ble_eq_true rfl⟩
noncomputable def fX2_word_L76 (a0 : Nat) (p1 : Nat) (k108 : PH → Option ((Nat ⊕ Nat) × PH)) (s76 : Int32 → PH → Option ((Nat ⊕ Nat) × PH)) (x1 : Int32) (h9 : PH) : Option ((Nat ⊕ Nat) × PH) :=
  vI (pF h9 a0 2 2) fun v5 =>
  if v5 ≤ x1 then
    k108 h9
  else
    vI (pF h9 a0 2 3) fun v6 =>
    vA (pF h9 a0 2 7) fun p3 =>
    vA (pF h9 p3 0 1) fun p4 =>
    ob (pLd h9 p4 2 x1) fun v7 =>
    bnv (pSt h9 p1 3 (x1 - v6) (vp_nar .char ((Int32.toUInt32 v7 % 65536).toInt32))) fun h10 =>
    s76 (x1 + 1) h10
noncomputable def fX2_word_L32 (a0 : Nat) (k59 : PH → Option ((Nat ⊕ Nat) × PH)) (s32 : PH → Option ((Nat ⊕ Nat) × PH)) (h11 : PH) : Option ((Nat ⊕ Nat) × PH) :=
  vI (pF h11 a0 2 2) fun v8 =>
  ckc (pCls h11 a0) 2 <|
  bnd (fX2_byteAt a0 v8 h11) fun r3 h12 =>
  bnd (fX0_isLetter r3 h12) fun r4 h13 =>
  if (bI r4) = 0 then
    k59 h13
  else
    vI (pF h13 a0 2 2) fun v9 =>
    bnv (pPut h13 a0 2 2 (.int (v9 + 1))) fun h14 =>
    s32 h14
noncomputable def fX2_word (D : PD) (cap : Nat × Nat) (a0 : Nat) (h : PH) : Option ((Nat ⊕ Nat) × PH) :=
  ckc (pCls h a0) 2 <|
  bnd (fX2_here a0 h) fun r1 h1 =>
  bnd (fX0_isLetter r1 h1) fun r2 h2 =>
  if (bI r2) = 0 then
    vI (pF h2 a0 2 2) fun v10 =>
    ckc (pCls h2 a0) 2 <|
    bnd (fX2_wrong a0 1 v10 h2) fun p5 h15 =>
    some (.inr p5, h15)
  else
    ckc (pCls h2 a0) 2 <|
    bnx (fX2_parted a0 h2) fun u1 h3 =>
    vI (pF h3 a0 2 2) fun v1 =>
    bnv (pPut h3 a0 2 3 (.int v1)) fun h4 =>
    jn (fun (h5 : PH) =>
      vI (pF h5 a0 2 2) fun v2 =>
      vI (pF h5 a0 2 3) fun v3 =>
      ck (!decide ((v2 - v3) < 0) && decide ((Int32.toNatClampNeg (v2 - v3)) ≤ 100000)) <|
      bnd (pNew cap h5 (.inl (3, (Int32.toNatClampNeg (v2 - v3)), .inl (fun _ => 0))) (Int32.toNatClampNeg (v2 - v3))) fun p1 h6 =>
      vI (pF h6 a0 2 3) fun v4 =>
      jn (fun (h7 : PH) =>
        bnd (fJ6_valueOf D cap p1 h7) fun p2 h8 =>
        some (.inl p2, h8)) fun k108 =>
      fx (fX2_word_L76 a0 p1 k108) (fun _ _ => none) FU v4 h6) fun k59 =>
    fx (fX2_word_L32 a0 k59) (fun _ => none) FU  h4
set_option maxHeartbeats 1000000 in
theorem kX2_word {l : Launch} {D : PD} {A : Nat → Prop} {cap : Nat × Nat} {a0 : Nat} {h h' : PH} {r : Nat} (hf : fX2_word D cap a0 h = some (.inl r, h')) : CMet l D A cap yX2_word cX2_word 3 (Option.some (Jvm.ClassFile.FieldType.object "java/lang/String")) 6 [.ref a0] h h' (some (.ref r)) := by
  unfold fX2_word at hf
  refine p_head (own := RX2) (ini := false) (pn_X2 rfl) rfl (fun q => by cases q) (Nat.le_of_ble_eq_true rfl) (fun m Z cx sx H0 ls X hM hl => ?_)
  have G := X.g
  have hl : lv_has ls 3 [(0, .ref a0)] := hl
  refine g_aload_n G dX2_word_0 rfl (lv_at hl 0 rfl) ?_
  obtain ⟨b1, hf⟩ := ckc_open hf
  obtain ⟨r1, h1, g1, hf⟩ := bnd_open hf
  refine p_callV_r (ci := 2) (As := []) (rest := []) X hM hl rfl b1 pcy_X2_here q543 q545 qs4 (kX2_here g1) rfl (Nat.le_of_ble_eq_true rfl) (Nat.le_of_ble_eq_true rfl) rfl dX2_word_1 (fun H locs hM => ?_)
  obtain ⟨r2, h2, g2, hf⟩ := bnd_open hf
  refine p_callSN_r (As := [.int r1]) (rest := []) X hM hl pcy_X0_isLetter q563 q564 (kX0_isLetter g2) rfl (Nat.le_of_ble_eq_true rfl) (Nat.le_of_ble_eq_true rfl) rfl dX2_word_4 (fun H locs hM => ?_)
  refine g_if_ne (tgt := 20) G dX2_word_7 rfl (fun c1 => ?_) (fun c1 => ?_)
  · have hf := it_neg c1 hf
    refine g_aload_n G dX2_word_20 rfl (lv_at hl 0 rfl) ?_
    obtain ⟨b2, hf⟩ := ckc_open hf
    obtain ⟨u1, h3, g3, hf⟩ := bnx_ret hf
    refine p_callV_v (ci := 2) (As := []) (rest := []) X hM hl rfl b2 pcy_X2_parted q566 q568 qs9 (kX2_parted g3) rfl (Nat.le_of_ble_eq_true rfl) (Nat.le_of_ble_eq_true rfl) rfl dX2_word_21 (fun H locs hM => ?_)
    refine g_aload_n G dX2_word_24 rfl (lv_at hl 0 rfl) ?_
    refine g_aload_n G dX2_word_25 rfl (lv_at hl 0 rfl) ?_
    obtain ⟨v1, g5, hf⟩ := vI_open hf
    refine p_get (k := 2) X hM pc_2 (by decide) q351 rfl g5 dX2_word_26 ?_
    obtain ⟨h4, g6, hf⟩ := bnv_open hf
    refine p_put (k := 3) X hM pc_2 (by decide) q352 rfl rfl rfl rfl g6 dX2_word_29 (fun H locs hM => ?_)
    obtain ⟨k59, ek59, hf⟩ := jn_open hf
    have K59 : ∀ (h5 : PH) (H : Heap) (locs : List Loc), k59 h5 = some (.inl r, h') → PI D A cap H0 h5 H locs → ∀ ls : Array Slot, lv_has ls 3 [(0, .ref a0)] → Z H locs (cx H) (sx H) (F0 m 59 ls []) := by
      intro h5 H locs hf hM ls hl
      rw [ek59] at hf
      refine g_aload_n G dX2_word_59 rfl (lv_at hl 0 rfl) ?_
      obtain ⟨v2, g7, hf⟩ := vI_open hf
      refine p_get (k := 2) X hM pc_2 (by decide) q351 rfl g7 dX2_word_60 ?_
      refine g_aload_n G dX2_word_63 rfl (lv_at hl 0 rfl) ?_
      obtain ⟨v3, g8, hf⟩ := vI_open hf
      refine p_get (k := 3) X hM pc_2 (by decide) q352 rfl g8 dX2_word_64 ?_
      refine g_isub G dX2_word_67 ?_
      obtain ⟨b3, hf⟩ := ck_open hf
      obtain ⟨p1, h6, g9, hf⟩ := bnd_open hf
      refine p_newC X hM b3 g9 dX2_word_68 (fun H locs hM => ?_)
      refine g_astore_n (i := 1) (lv' := [(1, .ref p1), (0, .ref a0)]) G dX2_word_70 rfl hl (Nat.le_of_ble_eq_true rfl) rfl (fun ls hl => ?_)
      refine g_aload_n G dX2_word_71 rfl (lv_at hl 1 rfl) ?_
      obtain ⟨v4, g10, hf⟩ := vI_open hf
      refine p_get (k := 3) X hM pc_2 (by decide) q352 rfl g10 dX2_word_72 ?_
      refine g_istore_n (i := 2) (lv' := [(2, .int v4), (1, .ref p1), (0, .ref a0)]) G dX2_word_75 rfl hl (Nat.le_of_ble_eq_true rfl) rfl (fun ls hl => ?_)
      obtain ⟨k108, ek108, hf⟩ := jn_open hf
      have K108 : ∀ (h7 : PH) (H : Heap) (locs : List Loc), k108 h7 = some (.inl r, h') → PI D A cap H0 h7 H locs → ∀ ls : Array Slot, lv_has ls 3 [(1, .ref p1)] → Z H locs (cx H) (sx H) (F0 m 108 ls []) := by
        intro h7 H locs hf hM ls hl
        rw [ek108] at hf
        refine g_aload_n G dX2_word_108 rfl (lv_at hl 0 rfl) ?_
        obtain ⟨p2, h8, g11, hf⟩ := bnd_open hf
        refine p_callS_r (As := [.ref p1]) (rest := []) X hM hl pcy_J6_valueOf q573 q574 (kJ6_valueOf g11) rfl (Nat.le_of_ble_eq_true rfl) (Nat.le_of_ble_eq_true rfl) rfl dX2_word_109 (fun H locs hM => ?_)
        cases hf
        exact p_aret X (Or.inl ⟨_, rfl⟩) hM rfl dX2_word_112
      have L76 : ∀ (n : Nat) (x1 : Int32) (h9 : PH) (H : Heap) (locs : List Loc), fx (fX2_word_L76 a0 p1 k108) (fun _ _ => none) n x1 h9 = some (.inl r, h') → PI D A cap H0 h9 H locs → ∀ ls : Array Slot, lv_has ls 3 [(0, .ref a0), (1, .ref p1), (2, .int x1)] → Z H locs (cx H) (sx H) (F0 m 76 ls []) := by
        intro n
        induction n with
        | zero => intro x1 h9 H locs hf; exact absurd hf (by intro q; cases q)
        | succ n ih76 =>
          intro x1 h9 H locs hf hM ls hl
          rw [fx_s] at hf
          generalize fx (fX2_word_L76 a0 p1 k108) (fun _ _ => none) n = s76 at hf ih76
          unfold fX2_word_L76 at hf
          refine g_iload_n G dX2_word_76 rfl (lv_at hl 2 rfl) ?_
          refine g_aload_n G dX2_word_77 rfl (lv_at hl 0 rfl) ?_
          obtain ⟨v5, g12, hf⟩ := vI_open hf
          refine p_get (k := 2) X hM pc_2 (by decide) q351 rfl g12 dX2_word_78 ?_
          refine g_icmp_ge (tgt := 108) G dX2_word_81 rfl (fun c2 => ?_) (fun c2 => ?_)
          · have hf := it_pos c2 hf
            exact K108 _ _ _ hf hM ls (lv_sub hl [1] rfl)
          · have hf := it_neg c2 hf
            refine g_aload_n G dX2_word_84 rfl (lv_at hl 1 rfl) ?_
            refine g_iload_n G dX2_word_85 rfl (lv_at hl 2 rfl) ?_
            refine g_aload_n G dX2_word_86 rfl (lv_at hl 0 rfl) ?_
            obtain ⟨v6, g13, hf⟩ := vI_open hf
            refine p_get (k := 3) X hM pc_2 (by decide) q352 rfl g13 dX2_word_87 ?_
            refine g_isub G dX2_word_90 ?_
            refine g_aload_n G dX2_word_91 rfl (lv_at hl 0 rfl) ?_
            obtain ⟨p3, g14, hf⟩ := vA_open hf
            refine p_get (k := 7) X hM pc_2 (by decide) q356 rfl g14 dX2_word_92 ?_
            obtain ⟨p4, g15, hf⟩ := vA_open hf
            refine p_getN (k := 1) X hM pc_0 (by decide) q447 rfl g15 dX2_word_95 ?_
            refine g_iload_n G dX2_word_98 rfl (lv_at hl 2 rfl) ?_
            obtain ⟨v7, g16, hf⟩ := ob_open hf
            refine p_bald X hM g16 dX2_word_99 ?_
            refine g_i2c (v := (Int32.toUInt32 v7 % 65536).toInt32) G dX2_word_100 rfl ?_
            obtain ⟨h10, g17, hf⟩ := bnv_open hf
            refine p_cast X hM g17 dX2_word_101 (fun H locs hM => ?_)
            refine g_iinc (v := x1 + 1) (lv' := [(2, .int (x1 + 1)), (0, .ref a0), (1, .ref p1)]) G dX2_word_102 hl (k := 2) rfl rfl (Nat.le_of_ble_eq_true rfl) rfl (fun ls hl => ?_)
            refine g_goto (tgt := 76) G dX2_word_105 rfl ?_
            exact ih76 _ _ _ _ hf hM ls (lv_sub hl [1, 2, 0] rfl)
      exact L76 FU _ _ _ _ hf hM ls (lv_sub hl [2, 1, 0] rfl)
    have L32 : ∀ (n : Nat) (h11 : PH) (H : Heap) (locs : List Loc), fx (fX2_word_L32 a0 k59) (fun _ => none) n h11 = some (.inl r, h') → PI D A cap H0 h11 H locs → ∀ ls : Array Slot, lv_has ls 3 [(0, .ref a0)] → Z H locs (cx H) (sx H) (F0 m 32 ls []) := by
      intro n
      induction n with
      | zero => intro h11 H locs hf; exact absurd hf (by intro q; cases q)
      | succ n ih32 =>
        intro h11 H locs hf hM ls hl
        rw [fx_s] at hf
        generalize fx (fX2_word_L32 a0 k59) (fun _ => none) n = s32 at hf ih32
        unfold fX2_word_L32 at hf
        refine g_aload_n G dX2_word_32 rfl (lv_at hl 0 rfl) ?_
        refine g_aload_n G dX2_word_33 rfl (lv_at hl 0 rfl) ?_
        obtain ⟨v8, g18, hf⟩ := vI_open hf
        refine p_get (k := 2) X hM pc_2 (by decide) q351 rfl g18 dX2_word_34 ?_
        obtain ⟨b4, hf⟩ := ckc_open hf
        obtain ⟨r3, h12, g19, hf⟩ := bnd_open hf
        refine p_callV_r (ci := 2) (As := [.int v8]) (rest := []) X hM hl rfl b4 pcy_X2_byteAt q547 q549 qs5 (kX2_byteAt g19) rfl (Nat.le_of_ble_eq_true rfl) (Nat.le_of_ble_eq_true rfl) rfl dX2_word_37 (fun H locs hM => ?_)
        obtain ⟨r4, h13, g20, hf⟩ := bnd_open hf
        refine p_callSN_r (As := [.int r3]) (rest := []) X hM hl pcy_X0_isLetter q563 q564 (kX0_isLetter g20) rfl (Nat.le_of_ble_eq_true rfl) (Nat.le_of_ble_eq_true rfl) rfl dX2_word_40 (fun H locs hM => ?_)
        refine g_if_eq (tgt := 59) G dX2_word_43 rfl (fun c3 => ?_) (fun c3 => ?_)
        · have hf := it_pos c3 hf
          exact K59 _ _ _ hf hM ls (lv_sub hl [0] rfl)
        · have hf := it_neg c3 hf
          refine g_aload_n G dX2_word_46 rfl (lv_at hl 0 rfl) ?_
          refine g_dup G dX2_word_47 rfl ?_
          obtain ⟨v9, g21, hf⟩ := vI_open hf
          refine p_get (k := 2) X hM pc_2 (by decide) q351 rfl g21 dX2_word_48 ?_
          refine g_iconst (v := 1) G dX2_word_51 rfl ?_
          refine g_iadd G dX2_word_52 ?_
          obtain ⟨h14, g22, hf⟩ := bnv_open hf
          refine p_put (k := 2) X hM pc_2 (by decide) q351 rfl rfl rfl rfl g22 dX2_word_53 (fun H locs hM => ?_)
          refine g_goto (tgt := 32) G dX2_word_56 rfl ?_
          exact ih32 _ _ _ hf hM ls (lv_sub hl [0] rfl)
    exact L32 FU _ _ _ hf hM ls (lv_sub hl [0] rfl)
  · have hf := it_pos c1 hf
    refine g_aload_n G dX2_word_10 rfl (lv_at hl 0 rfl) ?_
    refine g_iconst (v := 1) G dX2_word_11 rfl ?_
    refine g_aload_n G dX2_word_12 rfl (lv_at hl 0 rfl) ?_
    obtain ⟨v10, g23, hf⟩ := vI_open hf
    refine p_get (k := 2) X hM pc_2 (by decide) q351 rfl g23 dX2_word_13 ?_
    obtain ⟨b5, hf⟩ := ckc_open hf
    obtain ⟨p5, h15, g24, hf⟩ := bnd_open hf
    refine p_callV_r (ci := 2) (As := [.int 1, .int v10]) (rest := []) X hM hl rfl b5 pcy_X2_wrong q555 q557 qs7 (kX2_wrong g24) rfl (Nat.le_of_ble_eq_true rfl) (Nat.le_of_ble_eq_true rfl) rfl dX2_word_16 (fun H locs hM => ?_)
    exact absurd hf (by intro z; cases z)
set_option maxHeartbeats 1000000 in
theorem xX2_word {l : Launch} {D : PD} {A : Nat → Prop} {cap : Nat × Nat} {a0 : Nat} {h h' : PH} {q : Nat} (hf : fX2_word D cap a0 h = some (.inr q, h')) : XMet l D A cap yX2_word cX2_word 3 (Option.some (Jvm.ClassFile.FieldType.object "java/lang/String")) 6 [.ref a0] h h' (q) := by
  unfold fX2_word at hf
  refine p_headT (own := RX2) (ini := false) (pn_X2 rfl) rfl (fun q => by cases q) (Nat.le_of_ble_eq_true rfl) (fun m Z cx sx H0 ls X XT hM hl => ?_)
  have G := X.g
  have hl : lv_has ls 3 [(0, .ref a0)] := hl
  refine g_aload_n G dX2_word_0 rfl (lv_at hl 0 rfl) ?_
  obtain ⟨b1, hf⟩ := ckc_open hf
  obtain ⟨r1, h1, g1, hf⟩ := bnd_open hf
  refine p_callV_r (ci := 2) (As := []) (rest := []) X hM hl rfl b1 pcy_X2_here q543 q545 qs4 (kX2_here g1) rfl (Nat.le_of_ble_eq_true rfl) (Nat.le_of_ble_eq_true rfl) rfl dX2_word_1 (fun H locs hM => ?_)
  obtain ⟨r2, h2, g2, hf⟩ := bnd_open hf
  refine p_callSN_r (As := [.int r1]) (rest := []) X hM hl pcy_X0_isLetter q563 q564 (kX0_isLetter g2) rfl (Nat.le_of_ble_eq_true rfl) (Nat.le_of_ble_eq_true rfl) rfl dX2_word_4 (fun H locs hM => ?_)
  refine g_if_ne (tgt := 20) G dX2_word_7 rfl (fun c1 => ?_) (fun c1 => ?_)
  · have hf := it_neg c1 hf
    refine g_aload_n G dX2_word_20 rfl (lv_at hl 0 rfl) ?_
    obtain ⟨b2, hf⟩ := ckc_open hf
    refine bnx_split hf (fun g4 => ?_) (fun u1 h3 g3 hf => ?_)
    · exact p_callT (ci := 2) (As := []) (rest := []) XT hM hl rfl b2 pcy_X2_parted q566 q568 qs9 (xX2_parted g4) rfl (Nat.le_of_ble_eq_true rfl) (Nat.le_of_ble_eq_true rfl) rfl dX2_word_21
    refine p_callV_v (ci := 2) (As := []) (rest := []) X hM hl rfl b2 pcy_X2_parted q566 q568 qs9 (kX2_parted g3) rfl (Nat.le_of_ble_eq_true rfl) (Nat.le_of_ble_eq_true rfl) rfl dX2_word_21 (fun H locs hM => ?_)
    refine g_aload_n G dX2_word_24 rfl (lv_at hl 0 rfl) ?_
    refine g_aload_n G dX2_word_25 rfl (lv_at hl 0 rfl) ?_
    obtain ⟨v1, g5, hf⟩ := vI_open hf
    refine p_get (k := 2) X hM pc_2 (by decide) q351 rfl g5 dX2_word_26 ?_
    obtain ⟨h4, g6, hf⟩ := bnv_open hf
    refine p_put (k := 3) X hM pc_2 (by decide) q352 rfl rfl rfl rfl g6 dX2_word_29 (fun H locs hM => ?_)
    obtain ⟨k59, ek59, hf⟩ := jn_open hf
    have K59 : ∀ (h5 : PH) (H : Heap) (locs : List Loc), k59 h5 = some (.inr q, h') → PI D A cap H0 h5 H locs → ∀ ls : Array Slot, lv_has ls 3 [(0, .ref a0)] → Z H locs (cx H) (sx H) (F0 m 59 ls []) := by
      intro h5 H locs hf hM ls hl
      rw [ek59] at hf
      refine g_aload_n G dX2_word_59 rfl (lv_at hl 0 rfl) ?_
      obtain ⟨v2, g7, hf⟩ := vI_open hf
      refine p_get (k := 2) X hM pc_2 (by decide) q351 rfl g7 dX2_word_60 ?_
      refine g_aload_n G dX2_word_63 rfl (lv_at hl 0 rfl) ?_
      obtain ⟨v3, g8, hf⟩ := vI_open hf
      refine p_get (k := 3) X hM pc_2 (by decide) q352 rfl g8 dX2_word_64 ?_
      refine g_isub G dX2_word_67 ?_
      obtain ⟨b3, hf⟩ := ck_open hf
      obtain ⟨p1, h6, g9, hf⟩ := bnd_open hf
      refine p_newC X hM b3 g9 dX2_word_68 (fun H locs hM => ?_)
      refine g_astore_n (i := 1) (lv' := [(1, .ref p1), (0, .ref a0)]) G dX2_word_70 rfl hl (Nat.le_of_ble_eq_true rfl) rfl (fun ls hl => ?_)
      refine g_aload_n G dX2_word_71 rfl (lv_at hl 1 rfl) ?_
      obtain ⟨v4, g10, hf⟩ := vI_open hf
      refine p_get (k := 3) X hM pc_2 (by decide) q352 rfl g10 dX2_word_72 ?_
      refine g_istore_n (i := 2) (lv' := [(2, .int v4), (1, .ref p1), (0, .ref a0)]) G dX2_word_75 rfl hl (Nat.le_of_ble_eq_true rfl) rfl (fun ls hl => ?_)
      obtain ⟨k108, ek108, hf⟩ := jn_open hf
      have K108 : ∀ (h7 : PH) (H : Heap) (locs : List Loc), k108 h7 = some (.inr q, h') → PI D A cap H0 h7 H locs → ∀ ls : Array Slot, lv_has ls 3 [(1, .ref p1)] → Z H locs (cx H) (sx H) (F0 m 108 ls []) := by
        intro h7 H locs hf hM ls hl
        rw [ek108] at hf
        refine g_aload_n G dX2_word_108 rfl (lv_at hl 0 rfl) ?_
        obtain ⟨p2, h8, g11, hf⟩ := bnd_open hf
        refine p_callS_r (As := [.ref p1]) (rest := []) X hM hl pcy_J6_valueOf q573 q574 (kJ6_valueOf g11) rfl (Nat.le_of_ble_eq_true rfl) (Nat.le_of_ble_eq_true rfl) rfl dX2_word_109 (fun H locs hM => ?_)
        exact absurd hf (by intro z; cases z)
      have L76 : ∀ (n : Nat) (x1 : Int32) (h9 : PH) (H : Heap) (locs : List Loc), fx (fX2_word_L76 a0 p1 k108) (fun _ _ => none) n x1 h9 = some (.inr q, h') → PI D A cap H0 h9 H locs → ∀ ls : Array Slot, lv_has ls 3 [(0, .ref a0), (1, .ref p1), (2, .int x1)] → Z H locs (cx H) (sx H) (F0 m 76 ls []) := by
        intro n
        induction n with
        | zero => intro x1 h9 H locs hf; exact absurd hf (by intro q; cases q)
        | succ n ih76 =>
          intro x1 h9 H locs hf hM ls hl
          rw [fx_s] at hf
          generalize fx (fX2_word_L76 a0 p1 k108) (fun _ _ => none) n = s76 at hf ih76
          unfold fX2_word_L76 at hf
          refine g_iload_n G dX2_word_76 rfl (lv_at hl 2 rfl) ?_
          refine g_aload_n G dX2_word_77 rfl (lv_at hl 0 rfl) ?_
          obtain ⟨v5, g12, hf⟩ := vI_open hf
          refine p_get (k := 2) X hM pc_2 (by decide) q351 rfl g12 dX2_word_78 ?_
          refine g_icmp_ge (tgt := 108) G dX2_word_81 rfl (fun c2 => ?_) (fun c2 => ?_)
          · have hf := it_pos c2 hf
            exact K108 _ _ _ hf hM ls (lv_sub hl [1] rfl)
          · have hf := it_neg c2 hf
            refine g_aload_n G dX2_word_84 rfl (lv_at hl 1 rfl) ?_
            refine g_iload_n G dX2_word_85 rfl (lv_at hl 2 rfl) ?_
            refine g_aload_n G dX2_word_86 rfl (lv_at hl 0 rfl) ?_
            obtain ⟨v6, g13, hf⟩ := vI_open hf
            refine p_get (k := 3) X hM pc_2 (by decide) q352 rfl g13 dX2_word_87 ?_
            refine g_isub G dX2_word_90 ?_
            refine g_aload_n G dX2_word_91 rfl (lv_at hl 0 rfl) ?_
            obtain ⟨p3, g14, hf⟩ := vA_open hf
            refine p_get (k := 7) X hM pc_2 (by decide) q356 rfl g14 dX2_word_92 ?_
            obtain ⟨p4, g15, hf⟩ := vA_open hf
            refine p_getN (k := 1) X hM pc_0 (by decide) q447 rfl g15 dX2_word_95 ?_
            refine g_iload_n G dX2_word_98 rfl (lv_at hl 2 rfl) ?_
            obtain ⟨v7, g16, hf⟩ := ob_open hf
            refine p_bald X hM g16 dX2_word_99 ?_
            refine g_i2c (v := (Int32.toUInt32 v7 % 65536).toInt32) G dX2_word_100 rfl ?_
            obtain ⟨h10, g17, hf⟩ := bnv_open hf
            refine p_cast X hM g17 dX2_word_101 (fun H locs hM => ?_)
            refine g_iinc (v := x1 + 1) (lv' := [(2, .int (x1 + 1)), (0, .ref a0), (1, .ref p1)]) G dX2_word_102 hl (k := 2) rfl rfl (Nat.le_of_ble_eq_true rfl) rfl (fun ls hl => ?_)
            refine g_goto (tgt := 76) G dX2_word_105 rfl ?_
            exact ih76 _ _ _ _ hf hM ls (lv_sub hl [1, 2, 0] rfl)
      exact L76 FU _ _ _ _ hf hM ls (lv_sub hl [2, 1, 0] rfl)
    have L32 : ∀ (n : Nat) (h11 : PH) (H : Heap) (locs : List Loc), fx (fX2_word_L32 a0 k59) (fun _ => none) n h11 = some (.inr q, h') → PI D A cap H0 h11 H locs → ∀ ls : Array Slot, lv_has ls 3 [(0, .ref a0)] → Z H locs (cx H) (sx H) (F0 m 32 ls []) := by
      intro n
      induction n with
      | zero => intro h11 H locs hf; exact absurd hf (by intro q; cases q)
      | succ n ih32 =>
        intro h11 H locs hf hM ls hl
        rw [fx_s] at hf
        generalize fx (fX2_word_L32 a0 k59) (fun _ => none) n = s32 at hf ih32
        unfold fX2_word_L32 at hf
        refine g_aload_n G dX2_word_32 rfl (lv_at hl 0 rfl) ?_
        refine g_aload_n G dX2_word_33 rfl (lv_at hl 0 rfl) ?_
        obtain ⟨v8, g18, hf⟩ := vI_open hf
        refine p_get (k := 2) X hM pc_2 (by decide) q351 rfl g18 dX2_word_34 ?_
        obtain ⟨b4, hf⟩ := ckc_open hf
        obtain ⟨r3, h12, g19, hf⟩ := bnd_open hf
        refine p_callV_r (ci := 2) (As := [.int v8]) (rest := []) X hM hl rfl b4 pcy_X2_byteAt q547 q549 qs5 (kX2_byteAt g19) rfl (Nat.le_of_ble_eq_true rfl) (Nat.le_of_ble_eq_true rfl) rfl dX2_word_37 (fun H locs hM => ?_)
        obtain ⟨r4, h13, g20, hf⟩ := bnd_open hf
        refine p_callSN_r (As := [.int r3]) (rest := []) X hM hl pcy_X0_isLetter q563 q564 (kX0_isLetter g20) rfl (Nat.le_of_ble_eq_true rfl) (Nat.le_of_ble_eq_true rfl) rfl dX2_word_40 (fun H locs hM => ?_)
        refine g_if_eq (tgt := 59) G dX2_word_43 rfl (fun c3 => ?_) (fun c3 => ?_)
        · have hf := it_pos c3 hf
          exact K59 _ _ _ hf hM ls (lv_sub hl [0] rfl)
        · have hf := it_neg c3 hf
          refine g_aload_n G dX2_word_46 rfl (lv_at hl 0 rfl) ?_
          refine g_dup G dX2_word_47 rfl ?_
          obtain ⟨v9, g21, hf⟩ := vI_open hf
          refine p_get (k := 2) X hM pc_2 (by decide) q351 rfl g21 dX2_word_48 ?_
          refine g_iconst (v := 1) G dX2_word_51 rfl ?_
          refine g_iadd G dX2_word_52 ?_
          obtain ⟨h14, g22, hf⟩ := bnv_open hf
          refine p_put (k := 2) X hM pc_2 (by decide) q351 rfl rfl rfl rfl g22 dX2_word_53 (fun H locs hM => ?_)
          refine g_goto (tgt := 32) G dX2_word_56 rfl ?_
          exact ih32 _ _ _ hf hM ls (lv_sub hl [0] rfl)
    exact L32 FU _ _ _ hf hM ls (lv_sub hl [0] rfl)
  · have hf := it_pos c1 hf
    refine g_aload_n G dX2_word_10 rfl (lv_at hl 0 rfl) ?_
    refine g_iconst (v := 1) G dX2_word_11 rfl ?_
    refine g_aload_n G dX2_word_12 rfl (lv_at hl 0 rfl) ?_
    obtain ⟨v10, g23, hf⟩ := vI_open hf
    refine p_get (k := 2) X hM pc_2 (by decide) q351 rfl g23 dX2_word_13 ?_
    obtain ⟨b5, hf⟩ := ckc_open hf
    obtain ⟨p5, h15, g24, hf⟩ := bnd_open hf
    refine p_callV_r (ci := 2) (As := [.int 1, .int v10]) (rest := []) X hM hl rfl b5 pcy_X2_wrong q555 q557 qs7 (kX2_wrong g24) rfl (Nat.le_of_ble_eq_true rfl) (Nat.le_of_ble_eq_true rfl) rfl dX2_word_16 (fun H locs hM => ?_)
    cases hf
    exact p_athrow XT hM dX2_word_19
theorem pcy_X2_word_2 : pcY yX2_word_2 cX2_word_2 2 none 1 := ⟨q788, q150, ⟨by decide +kernel, by decide +kernel, by decide +kernel⟩, Nat.le_of_ble_eq_true rfl⟩
noncomputable def fX2_word_2 (D : PD) (cap : Nat × Nat) (a0 : Nat) (a1 : Nat) (h : PH) : Option ((Unit ⊕ Nat) × PH) :=
  ckc (pCls h a0) 2 <|
  bnx (fX2_word D cap a0 h) fun p1 h1 =>
  ckc (pCls h1 p1) 22 <|
  bnd (fJ6_equals D p1 (some a1) h1) fun r1 h2 =>
  if (bI r1) = 0 then
    vI (pF h2 a0 2 3) fun v1 =>
    ckc (pCls h2 a0) 2 <|
    bnd (fX2_wrong a0 1 v1 h2) fun p2 h3 =>
    some (.inr p2, h3)
  else
    some (.inl (), h2)
set_option maxHeartbeats 1000000 in
theorem kX2_word_2 {l : Launch} {D : PD} {A : Nat → Prop} {cap : Nat × Nat} {a0 : Nat} {a1 : Nat} {h h' : PH} (hf : fX2_word_2 D cap a0 a1 h = some (.inl (), h')) : CMet l D A cap yX2_word_2 cX2_word_2 2 none 7 [.ref a0, .ref a1] h h' (none) := by
  unfold fX2_word_2 at hf
  refine p_head (own := RX2) (ini := false) (pn_X2 rfl) rfl (fun q => by cases q) (Nat.le_of_ble_eq_true rfl) (fun m Z cx sx H0 ls X hM hl => ?_)
  have G := X.g
  have hl : lv_has ls 2 [(0, .ref a0), (1, .ref a1)] := hl
  refine g_aload_n G dX2_word_2_0 rfl (lv_at hl 0 rfl) ?_
  obtain ⟨b1, hf⟩ := ckc_open hf
  obtain ⟨p1, h1, g1, hf⟩ := bnx_ret hf
  refine p_callV_r (ci := 2) (As := []) (rest := []) X hM hl rfl b1 pcy_X2_word q559 q561 qs8 (kX2_word g1) rfl (Nat.le_of_ble_eq_true rfl) (Nat.le_of_ble_eq_true rfl) rfl dX2_word_2_1 (fun H locs hM => ?_)
  refine g_aload_n G dX2_word_2_4 rfl (lv_at hl 1 rfl) ?_
  obtain ⟨b2, hf⟩ := ckc_open hf
  obtain ⟨r1, h2, g3, hf⟩ := bnd_open hf
  refine p_callV_r (ci := 22) (As := [va_rf (some a1)]) (rest := []) X hM hl rfl b2 pcy_J6_equals q709 q710 q711 (kJ6_equals g3) rfl (Nat.le_of_ble_eq_true rfl) (Nat.le_of_ble_eq_true rfl) rfl dX2_word_2_5 (fun H locs hM => ?_)
  refine g_if_ne (tgt := 21) G dX2_word_2_8 rfl (fun c1 => ?_) (fun c1 => ?_)
  · have hf := it_neg c1 hf
    cases hf
    exact p_vret X hM rfl dX2_word_2_21
  · have hf := it_pos c1 hf
    refine g_aload_n G dX2_word_2_11 rfl (lv_at hl 0 rfl) ?_
    refine g_iconst (v := 1) G dX2_word_2_12 rfl ?_
    refine g_aload_n G dX2_word_2_13 rfl (lv_at hl 0 rfl) ?_
    obtain ⟨v1, g4, hf⟩ := vI_open hf
    refine p_get (k := 3) X hM pc_2 (by decide) q352 rfl g4 dX2_word_2_14 ?_
    obtain ⟨b3, hf⟩ := ckc_open hf
    obtain ⟨p2, h3, g5, hf⟩ := bnd_open hf
    refine p_callV_r (ci := 2) (As := [.int 1, .int v1]) (rest := []) X hM hl rfl b3 pcy_X2_wrong q555 q557 qs7 (kX2_wrong g5) rfl (Nat.le_of_ble_eq_true rfl) (Nat.le_of_ble_eq_true rfl) rfl dX2_word_2_17 (fun H locs hM => ?_)
    exact absurd hf (by intro z; cases z)
set_option maxHeartbeats 1000000 in
theorem xX2_word_2 {l : Launch} {D : PD} {A : Nat → Prop} {cap : Nat × Nat} {a0 : Nat} {a1 : Nat} {h h' : PH} {q : Nat} (hf : fX2_word_2 D cap a0 a1 h = some (.inr q, h')) : XMet l D A cap yX2_word_2 cX2_word_2 2 none 7 [.ref a0, .ref a1] h h' (q) := by
  unfold fX2_word_2 at hf
  refine p_headT (own := RX2) (ini := false) (pn_X2 rfl) rfl (fun q => by cases q) (Nat.le_of_ble_eq_true rfl) (fun m Z cx sx H0 ls X XT hM hl => ?_)
  have G := X.g
  have hl : lv_has ls 2 [(0, .ref a0), (1, .ref a1)] := hl
  refine g_aload_n G dX2_word_2_0 rfl (lv_at hl 0 rfl) ?_
  obtain ⟨b1, hf⟩ := ckc_open hf
  refine bnx_split hf (fun g2 => ?_) (fun p1 h1 g1 hf => ?_)
  · exact p_callT (ci := 2) (As := []) (rest := []) XT hM hl rfl b1 pcy_X2_word q559 q561 qs8 (xX2_word g2) rfl (Nat.le_of_ble_eq_true rfl) (Nat.le_of_ble_eq_true rfl) rfl dX2_word_2_1
  refine p_callV_r (ci := 2) (As := []) (rest := []) X hM hl rfl b1 pcy_X2_word q559 q561 qs8 (kX2_word g1) rfl (Nat.le_of_ble_eq_true rfl) (Nat.le_of_ble_eq_true rfl) rfl dX2_word_2_1 (fun H locs hM => ?_)
  refine g_aload_n G dX2_word_2_4 rfl (lv_at hl 1 rfl) ?_
  obtain ⟨b2, hf⟩ := ckc_open hf
  obtain ⟨r1, h2, g3, hf⟩ := bnd_open hf
  refine p_callV_r (ci := 22) (As := [va_rf (some a1)]) (rest := []) X hM hl rfl b2 pcy_J6_equals q709 q710 q711 (kJ6_equals g3) rfl (Nat.le_of_ble_eq_true rfl) (Nat.le_of_ble_eq_true rfl) rfl dX2_word_2_5 (fun H locs hM => ?_)
  refine g_if_ne (tgt := 21) G dX2_word_2_8 rfl (fun c1 => ?_) (fun c1 => ?_)
  · have hf := it_neg c1 hf
    exact absurd hf (by intro z; cases z)
  · have hf := it_pos c1 hf
    refine g_aload_n G dX2_word_2_11 rfl (lv_at hl 0 rfl) ?_
    refine g_iconst (v := 1) G dX2_word_2_12 rfl ?_
    refine g_aload_n G dX2_word_2_13 rfl (lv_at hl 0 rfl) ?_
    obtain ⟨v1, g4, hf⟩ := vI_open hf
    refine p_get (k := 3) X hM pc_2 (by decide) q352 rfl g4 dX2_word_2_14 ?_
    obtain ⟨b3, hf⟩ := ckc_open hf
    obtain ⟨p2, h3, g5, hf⟩ := bnd_open hf
    refine p_callV_r (ci := 2) (As := [.int 1, .int v1]) (rest := []) X hM hl rfl b3 pcy_X2_wrong q555 q557 qs7 (kX2_wrong g5) rfl (Nat.le_of_ble_eq_true rfl) (Nat.le_of_ble_eq_true rfl) rfl dX2_word_2_17 (fun H locs hM => ?_)
    cases hf
    exact p_athrow XT hM dX2_word_2_20
theorem pcy_X2_passes : pcY yX2_passes cX2_passes 3 (Option.some Jvm.ClassFile.FieldType.boolean) 1 := ⟨q981, q150, ⟨by decide +kernel, by decide +kernel, by decide +kernel⟩, Nat.le_of_ble_eq_true rfl⟩
noncomputable def fX2_passes (D : PD) (cap : Nat × Nat) (a0 : Nat) (a1 : Nat) (h : PH) : Option ((Bool ⊕ Nat) × PH) :=
  vI (pF h a0 2 2) fun v1 =>
  ckc (pCls h a0) 2 <|
  bnd (fX2_here a0 h) fun r1 h1 =>
  bnd (fX0_isLetter r1 h1) fun r2 h2 =>
  if (bI r2) = 0 then
    some (.inl false, h2)
  else
    ckc (pCls h2 a0) 2 <|
    bnx (fX2_word D cap a0 h2) fun p1 h3 =>
    ckc (pCls h3 p1) 22 <|
    bnd (fJ6_equals D p1 (some a1) h3) fun r3 h4 =>
    if (bI r3) = 0 then
      bnv (pPut h4 a0 2 2 (.int v1)) fun h5 =>
      some (.inl false, h5)
    else
      some (.inl true, h4)
set_option maxHeartbeats 1000000 in
theorem kX2_passes {l : Launch} {D : PD} {A : Nat → Prop} {cap : Nat × Nat} {a0 : Nat} {a1 : Nat} {h h' : PH} {r : Bool} (hf : fX2_passes D cap a0 a1 h = some (.inl r, h')) : CMet l D A cap yX2_passes cX2_passes 3 (Option.some Jvm.ClassFile.FieldType.boolean) 7 [.ref a0, .ref a1] h h' (some (.int (bI r))) := by
  unfold fX2_passes at hf
  refine p_head (own := RX2) (ini := false) (pn_X2 rfl) rfl (fun q => by cases q) (Nat.le_of_ble_eq_true rfl) (fun m Z cx sx H0 ls X hM hl => ?_)
  have G := X.g
  have hl : lv_has ls 3 [(0, .ref a0), (1, .ref a1)] := hl
  refine g_aload_n G dX2_passes_0 rfl (lv_at hl 0 rfl) ?_
  obtain ⟨v1, g1, hf⟩ := vI_open hf
  refine p_get (k := 2) X hM pc_2 (by decide) q351 rfl g1 dX2_passes_1 ?_
  refine g_istore_n (i := 2) (lv' := [(2, .int v1), (0, .ref a0), (1, .ref a1)]) G dX2_passes_4 rfl hl (Nat.le_of_ble_eq_true rfl) rfl (fun ls hl => ?_)
  refine g_aload_n G dX2_passes_5 rfl (lv_at hl 1 rfl) ?_
  obtain ⟨b1, hf⟩ := ckc_open hf
  obtain ⟨r1, h1, g2, hf⟩ := bnd_open hf
  refine p_callV_r (ci := 2) (As := []) (rest := []) X hM hl rfl b1 pcy_X2_here q543 q545 qs4 (kX2_here g2) rfl (Nat.le_of_ble_eq_true rfl) (Nat.le_of_ble_eq_true rfl) rfl dX2_passes_6 (fun H locs hM => ?_)
  obtain ⟨r2, h2, g3, hf⟩ := bnd_open hf
  refine p_callSN_r (As := [.int r1]) (rest := []) X hM hl pcy_X0_isLetter q563 q564 (kX0_isLetter g3) rfl (Nat.le_of_ble_eq_true rfl) (Nat.le_of_ble_eq_true rfl) rfl dX2_passes_9 (fun H locs hM => ?_)
  refine g_if_ne (tgt := 17) G dX2_passes_12 rfl (fun c1 => ?_) (fun c1 => ?_)
  · have hf := it_neg c1 hf
    refine g_aload_n G dX2_passes_17 rfl (lv_at hl 1 rfl) ?_
    obtain ⟨b2, hf⟩ := ckc_open hf
    obtain ⟨p1, h3, g4, hf⟩ := bnx_ret hf
    refine p_callV_r (ci := 2) (As := []) (rest := []) X hM hl rfl b2 pcy_X2_word q559 q561 qs8 (kX2_word g4) rfl (Nat.le_of_ble_eq_true rfl) (Nat.le_of_ble_eq_true rfl) rfl dX2_passes_18 (fun H locs hM => ?_)
    refine g_aload_n G dX2_passes_21 rfl (lv_at hl 2 rfl) ?_
    obtain ⟨b3, hf⟩ := ckc_open hf
    obtain ⟨r3, h4, g6, hf⟩ := bnd_open hf
    refine p_callV_r (ci := 22) (As := [va_rf (some a1)]) (rest := []) X hM hl rfl b3 pcy_J6_equals q709 q710 q711 (kJ6_equals g6) rfl (Nat.le_of_ble_eq_true rfl) (Nat.le_of_ble_eq_true rfl) rfl dX2_passes_22 (fun H locs hM => ?_)
    refine g_if_eq (tgt := 30) G dX2_passes_25 rfl (fun c2 => ?_) (fun c2 => ?_)
    · have hf := it_pos c2 hf
      refine g_aload_n G dX2_passes_30 rfl (lv_at hl 1 rfl) ?_
      refine g_iload_n G dX2_passes_31 rfl (lv_at hl 0 rfl) ?_
      obtain ⟨h5, g7, hf⟩ := bnv_open hf
      refine p_put (k := 2) X hM pc_2 (by decide) q351 rfl rfl rfl rfl g7 dX2_passes_32 (fun H locs hM => ?_)
      refine g_iconst (v := 0) G dX2_passes_35 rfl ?_
      cases hf
      exact p_zret X hM rfl dX2_passes_36
    · have hf := it_neg c2 hf
      refine g_iconst (v := 1) G dX2_passes_28 rfl ?_
      cases hf
      exact p_zret X hM rfl dX2_passes_29
  · have hf := it_pos c1 hf
    refine g_iconst (v := 0) G dX2_passes_15 rfl ?_
    cases hf
    exact p_zret X hM rfl dX2_passes_16
set_option maxHeartbeats 1000000 in
theorem xX2_passes {l : Launch} {D : PD} {A : Nat → Prop} {cap : Nat × Nat} {a0 : Nat} {a1 : Nat} {h h' : PH} {q : Nat} (hf : fX2_passes D cap a0 a1 h = some (.inr q, h')) : XMet l D A cap yX2_passes cX2_passes 3 (Option.some Jvm.ClassFile.FieldType.boolean) 7 [.ref a0, .ref a1] h h' (q) := by
  unfold fX2_passes at hf
  refine p_headT (own := RX2) (ini := false) (pn_X2 rfl) rfl (fun q => by cases q) (Nat.le_of_ble_eq_true rfl) (fun m Z cx sx H0 ls X XT hM hl => ?_)
  have G := X.g
  have hl : lv_has ls 3 [(0, .ref a0), (1, .ref a1)] := hl
  refine g_aload_n G dX2_passes_0 rfl (lv_at hl 0 rfl) ?_
  obtain ⟨v1, g1, hf⟩ := vI_open hf
  refine p_get (k := 2) X hM pc_2 (by decide) q351 rfl g1 dX2_passes_1 ?_
  refine g_istore_n (i := 2) (lv' := [(2, .int v1), (0, .ref a0), (1, .ref a1)]) G dX2_passes_4 rfl hl (Nat.le_of_ble_eq_true rfl) rfl (fun ls hl => ?_)
  refine g_aload_n G dX2_passes_5 rfl (lv_at hl 1 rfl) ?_
  obtain ⟨b1, hf⟩ := ckc_open hf
  obtain ⟨r1, h1, g2, hf⟩ := bnd_open hf
  refine p_callV_r (ci := 2) (As := []) (rest := []) X hM hl rfl b1 pcy_X2_here q543 q545 qs4 (kX2_here g2) rfl (Nat.le_of_ble_eq_true rfl) (Nat.le_of_ble_eq_true rfl) rfl dX2_passes_6 (fun H locs hM => ?_)
  obtain ⟨r2, h2, g3, hf⟩ := bnd_open hf
  refine p_callSN_r (As := [.int r1]) (rest := []) X hM hl pcy_X0_isLetter q563 q564 (kX0_isLetter g3) rfl (Nat.le_of_ble_eq_true rfl) (Nat.le_of_ble_eq_true rfl) rfl dX2_passes_9 (fun H locs hM => ?_)
  refine g_if_ne (tgt := 17) G dX2_passes_12 rfl (fun c1 => ?_) (fun c1 => ?_)
  · have hf := it_neg c1 hf
    refine g_aload_n G dX2_passes_17 rfl (lv_at hl 1 rfl) ?_
    obtain ⟨b2, hf⟩ := ckc_open hf
    refine bnx_split hf (fun g5 => ?_) (fun p1 h3 g4 hf => ?_)
    · exact p_callT (ci := 2) (As := []) (rest := []) XT hM hl rfl b2 pcy_X2_word q559 q561 qs8 (xX2_word g5) rfl (Nat.le_of_ble_eq_true rfl) (Nat.le_of_ble_eq_true rfl) rfl dX2_passes_18
    refine p_callV_r (ci := 2) (As := []) (rest := []) X hM hl rfl b2 pcy_X2_word q559 q561 qs8 (kX2_word g4) rfl (Nat.le_of_ble_eq_true rfl) (Nat.le_of_ble_eq_true rfl) rfl dX2_passes_18 (fun H locs hM => ?_)
    refine g_aload_n G dX2_passes_21 rfl (lv_at hl 2 rfl) ?_
    obtain ⟨b3, hf⟩ := ckc_open hf
    obtain ⟨r3, h4, g6, hf⟩ := bnd_open hf
    refine p_callV_r (ci := 22) (As := [va_rf (some a1)]) (rest := []) X hM hl rfl b3 pcy_J6_equals q709 q710 q711 (kJ6_equals g6) rfl (Nat.le_of_ble_eq_true rfl) (Nat.le_of_ble_eq_true rfl) rfl dX2_passes_22 (fun H locs hM => ?_)
    refine g_if_eq (tgt := 30) G dX2_passes_25 rfl (fun c2 => ?_) (fun c2 => ?_)
    · have hf := it_pos c2 hf
      refine g_aload_n G dX2_passes_30 rfl (lv_at hl 1 rfl) ?_
      refine g_iload_n G dX2_passes_31 rfl (lv_at hl 0 rfl) ?_
      obtain ⟨h5, g7, hf⟩ := bnv_open hf
      refine p_put (k := 2) X hM pc_2 (by decide) q351 rfl rfl rfl rfl g7 dX2_passes_32 (fun H locs hM => ?_)
      refine g_iconst (v := 0) G dX2_passes_35 rfl ?_
      exact absurd hf (by intro z; cases z)
    · have hf := it_neg c2 hf
      refine g_iconst (v := 1) G dX2_passes_28 rfl ?_
      exact absurd hf (by intro z; cases z)
  · have hf := it_pos c1 hf
    refine g_iconst (v := 0) G dX2_passes_15 rfl ?_
    exact absurd hf (by intro z; cases z)
theorem pcy_X2_name : pcY yX2_name cX2_name 2 (Option.some (Jvm.ClassFile.FieldType.object "java/lang/String")) 0 := ⟨q737, q150, ⟨by decide +kernel, by decide +kernel, by decide +kernel⟩, Nat.le_of_ble_eq_true rfl⟩
noncomputable def fX2_name (D : PD) (cap : Nat × Nat) (a0 : Nat) (h : PH) : Option ((Nat ⊕ Nat) × PH) :=
  ckc (pCls h a0) 2 <|
  bnx (fX2_word D cap a0 h) fun p1 h1 =>
  vA (some (dS D 0)) fun p2 =>
  bnd (fX0_find D p1 p2 h1) fun r1 h2 =>
  if r1 = ((-1) : Int32) then
    ckc (pCls h2 p1) 22 <|
    bnd (fJ6_length D p1 h2) fun r2 h3 =>
    if r2 ≤ (6 : Int32) then
      some (.inl p1, h3)
    else
      vI (pF h3 a0 2 3) fun v1 =>
      ckc (pCls h3 a0) 2 <|
      bnd (fX2_wrong a0 1 (v1 + 6) h3) fun p3 h4 =>
      some (.inr p3, h4)
  else
    vI (pF h2 a0 2 3) fun v2 =>
    ckc (pCls h2 a0) 2 <|
    bnd (fX2_wrong a0 1 v2 h2) fun p4 h5 =>
    some (.inr p4, h5)
set_option maxHeartbeats 1000000 in
theorem kX2_name {l : Launch} {D : PD} {A : Nat → Prop} {cap : Nat × Nat} {a0 : Nat} {h h' : PH} {r : Nat} (hf : fX2_name D cap a0 h = some (.inl r, h')) : CMet l D A cap yX2_name cX2_name 2 (Option.some (Jvm.ClassFile.FieldType.object "java/lang/String")) 7 [.ref a0] h h' (some (.ref r)) := by
  unfold fX2_name at hf
  refine p_head (own := RX2) (ini := false) (pn_X2 rfl) rfl (fun q => by cases q) (Nat.le_of_ble_eq_true rfl) (fun m Z cx sx H0 ls X hM hl => ?_)
  have G := X.g
  have hl : lv_has ls 2 [(0, .ref a0)] := hl
  refine g_aload_n G dX2_name_0 rfl (lv_at hl 0 rfl) ?_
  obtain ⟨b1, hf⟩ := ckc_open hf
  obtain ⟨p1, h1, g1, hf⟩ := bnx_ret hf
  refine p_callV_r (ci := 2) (As := []) (rest := []) X hM hl rfl b1 pcy_X2_word q559 q561 qs8 (kX2_word g1) rfl (Nat.le_of_ble_eq_true rfl) (Nat.le_of_ble_eq_true rfl) rfl dX2_name_1 (fun H locs hM => ?_)
  refine g_astore_n (i := 1) (lv' := [(1, .ref p1), (0, .ref a0)]) G dX2_name_4 rfl hl (Nat.le_of_ble_eq_true rfl) rfl (fun ls hl => ?_)
  refine g_aload_n G dX2_name_5 rfl (lv_at hl 0 rfl) ?_
  obtain ⟨p2, g3, hf⟩ := vA_open hf
  refine p_getsN X hM (i := 0) rfl q738 dX2_name_6 ?_
  rw [Option.some.inj g3]
  obtain ⟨r1, h2, g4, hf⟩ := bnd_open hf
  refine p_callSN_r (As := [.ref p1, .ref p2]) (rest := []) X hM hl pcy_X0_find q740 q741 (kX0_find g4) rfl (Nat.le_of_ble_eq_true rfl) (Nat.le_of_ble_eq_true rfl) rfl dX2_name_9 (fun H locs hM => ?_)
  refine g_iconst (v := (-1)) G dX2_name_12 rfl ?_
  refine g_icmp_eq (tgt := 26) G dX2_name_13 rfl (fun c1 => ?_) (fun c1 => ?_)
  · have hf := it_pos c1 hf
    refine g_aload_n G dX2_name_26 rfl (lv_at hl 0 rfl) ?_
    obtain ⟨b2, hf⟩ := ckc_open hf
    obtain ⟨r2, h3, g5, hf⟩ := bnd_open hf
    refine p_callV_r (ci := 22) (As := []) (rest := []) X hM hl rfl b2 pcy_J6_length q744 q745 q746 (kJ6_length g5) rfl (Nat.le_of_ble_eq_true rfl) (Nat.le_of_ble_eq_true rfl) rfl dX2_name_27 (fun H locs hM => ?_)
    refine g_bipush (v := 6) G dX2_name_30 rfl ?_
    refine g_icmp_le (tgt := 48) G dX2_name_32 rfl (fun c2 => ?_) (fun c2 => ?_)
    · have hf := it_pos c2 hf
      refine g_aload_n G dX2_name_48 rfl (lv_at hl 0 rfl) ?_
      cases hf
      exact p_aret X (Or.inl ⟨_, rfl⟩) hM rfl dX2_name_49
    · have hf := it_neg c2 hf
      refine g_aload_n G dX2_name_35 rfl (lv_at hl 1 rfl) ?_
      refine g_iconst (v := 1) G dX2_name_36 rfl ?_
      refine g_aload_n G dX2_name_37 rfl (lv_at hl 1 rfl) ?_
      obtain ⟨v1, g6, hf⟩ := vI_open hf
      refine p_get (k := 3) X hM pc_2 (by decide) q352 rfl g6 dX2_name_38 ?_
      refine g_bipush (v := 6) G dX2_name_41 rfl ?_
      refine g_iadd G dX2_name_43 ?_
      obtain ⟨b3, hf⟩ := ckc_open hf
      obtain ⟨p3, h4, g7, hf⟩ := bnd_open hf
      refine p_callV_r (ci := 2) (As := [.int 1, .int (v1 + 6)]) (rest := []) X hM hl rfl b3 pcy_X2_wrong q555 q557 qs7 (kX2_wrong g7) rfl (Nat.le_of_ble_eq_true rfl) (Nat.le_of_ble_eq_true rfl) rfl dX2_name_44 (fun H locs hM => ?_)
      exact absurd hf (by intro z; cases z)
  · have hf := it_neg c1 hf
    refine g_aload_n G dX2_name_16 rfl (lv_at hl 1 rfl) ?_
    refine g_iconst (v := 1) G dX2_name_17 rfl ?_
    refine g_aload_n G dX2_name_18 rfl (lv_at hl 1 rfl) ?_
    obtain ⟨v2, g8, hf⟩ := vI_open hf
    refine p_get (k := 3) X hM pc_2 (by decide) q352 rfl g8 dX2_name_19 ?_
    obtain ⟨b4, hf⟩ := ckc_open hf
    obtain ⟨p4, h5, g9, hf⟩ := bnd_open hf
    refine p_callV_r (ci := 2) (As := [.int 1, .int v2]) (rest := []) X hM hl rfl b4 pcy_X2_wrong q555 q557 qs7 (kX2_wrong g9) rfl (Nat.le_of_ble_eq_true rfl) (Nat.le_of_ble_eq_true rfl) rfl dX2_name_22 (fun H locs hM => ?_)
    exact absurd hf (by intro z; cases z)
set_option maxHeartbeats 1000000 in
theorem xX2_name {l : Launch} {D : PD} {A : Nat → Prop} {cap : Nat × Nat} {a0 : Nat} {h h' : PH} {q : Nat} (hf : fX2_name D cap a0 h = some (.inr q, h')) : XMet l D A cap yX2_name cX2_name 2 (Option.some (Jvm.ClassFile.FieldType.object "java/lang/String")) 7 [.ref a0] h h' (q) := by
  unfold fX2_name at hf
  refine p_headT (own := RX2) (ini := false) (pn_X2 rfl) rfl (fun q => by cases q) (Nat.le_of_ble_eq_true rfl) (fun m Z cx sx H0 ls X XT hM hl => ?_)
  have G := X.g
  have hl : lv_has ls 2 [(0, .ref a0)] := hl
  refine g_aload_n G dX2_name_0 rfl (lv_at hl 0 rfl) ?_
  obtain ⟨b1, hf⟩ := ckc_open hf
  refine bnx_split hf (fun g2 => ?_) (fun p1 h1 g1 hf => ?_)
  · exact p_callT (ci := 2) (As := []) (rest := []) XT hM hl rfl b1 pcy_X2_word q559 q561 qs8 (xX2_word g2) rfl (Nat.le_of_ble_eq_true rfl) (Nat.le_of_ble_eq_true rfl) rfl dX2_name_1
  refine p_callV_r (ci := 2) (As := []) (rest := []) X hM hl rfl b1 pcy_X2_word q559 q561 qs8 (kX2_word g1) rfl (Nat.le_of_ble_eq_true rfl) (Nat.le_of_ble_eq_true rfl) rfl dX2_name_1 (fun H locs hM => ?_)
  refine g_astore_n (i := 1) (lv' := [(1, .ref p1), (0, .ref a0)]) G dX2_name_4 rfl hl (Nat.le_of_ble_eq_true rfl) rfl (fun ls hl => ?_)
  refine g_aload_n G dX2_name_5 rfl (lv_at hl 0 rfl) ?_
  obtain ⟨p2, g3, hf⟩ := vA_open hf
  refine p_getsN X hM (i := 0) rfl q738 dX2_name_6 ?_
  rw [Option.some.inj g3]
  obtain ⟨r1, h2, g4, hf⟩ := bnd_open hf
  refine p_callSN_r (As := [.ref p1, .ref p2]) (rest := []) X hM hl pcy_X0_find q740 q741 (kX0_find g4) rfl (Nat.le_of_ble_eq_true rfl) (Nat.le_of_ble_eq_true rfl) rfl dX2_name_9 (fun H locs hM => ?_)
  refine g_iconst (v := (-1)) G dX2_name_12 rfl ?_
  refine g_icmp_eq (tgt := 26) G dX2_name_13 rfl (fun c1 => ?_) (fun c1 => ?_)
  · have hf := it_pos c1 hf
    refine g_aload_n G dX2_name_26 rfl (lv_at hl 0 rfl) ?_
    obtain ⟨b2, hf⟩ := ckc_open hf
    obtain ⟨r2, h3, g5, hf⟩ := bnd_open hf
    refine p_callV_r (ci := 22) (As := []) (rest := []) X hM hl rfl b2 pcy_J6_length q744 q745 q746 (kJ6_length g5) rfl (Nat.le_of_ble_eq_true rfl) (Nat.le_of_ble_eq_true rfl) rfl dX2_name_27 (fun H locs hM => ?_)
    refine g_bipush (v := 6) G dX2_name_30 rfl ?_
    refine g_icmp_le (tgt := 48) G dX2_name_32 rfl (fun c2 => ?_) (fun c2 => ?_)
    · have hf := it_pos c2 hf
      refine g_aload_n G dX2_name_48 rfl (lv_at hl 0 rfl) ?_
      exact absurd hf (by intro z; cases z)
    · have hf := it_neg c2 hf
      refine g_aload_n G dX2_name_35 rfl (lv_at hl 1 rfl) ?_
      refine g_iconst (v := 1) G dX2_name_36 rfl ?_
      refine g_aload_n G dX2_name_37 rfl (lv_at hl 1 rfl) ?_
      obtain ⟨v1, g6, hf⟩ := vI_open hf
      refine p_get (k := 3) X hM pc_2 (by decide) q352 rfl g6 dX2_name_38 ?_
      refine g_bipush (v := 6) G dX2_name_41 rfl ?_
      refine g_iadd G dX2_name_43 ?_
      obtain ⟨b3, hf⟩ := ckc_open hf
      obtain ⟨p3, h4, g7, hf⟩ := bnd_open hf
      refine p_callV_r (ci := 2) (As := [.int 1, .int (v1 + 6)]) (rest := []) X hM hl rfl b3 pcy_X2_wrong q555 q557 qs7 (kX2_wrong g7) rfl (Nat.le_of_ble_eq_true rfl) (Nat.le_of_ble_eq_true rfl) rfl dX2_name_44 (fun H locs hM => ?_)
      cases hf
      exact p_athrow XT hM dX2_name_47
  · have hf := it_neg c1 hf
    refine g_aload_n G dX2_name_16 rfl (lv_at hl 1 rfl) ?_
    refine g_iconst (v := 1) G dX2_name_17 rfl ?_
    refine g_aload_n G dX2_name_18 rfl (lv_at hl 1 rfl) ?_
    obtain ⟨v2, g8, hf⟩ := vI_open hf
    refine p_get (k := 3) X hM pc_2 (by decide) q352 rfl g8 dX2_name_19 ?_
    obtain ⟨b4, hf⟩ := ckc_open hf
    obtain ⟨p4, h5, g9, hf⟩ := bnd_open hf
    refine p_callV_r (ci := 2) (As := [.int 1, .int v2]) (rest := []) X hM hl rfl b4 pcy_X2_wrong q555 q557 qs7 (kX2_wrong g9) rfl (Nat.le_of_ble_eq_true rfl) (Nat.le_of_ble_eq_true rfl) rfl dX2_name_22 (fun H locs hM => ?_)
    cases hf
    exact p_athrow XT hM dX2_name_25
theorem pcy_X2_number_2 : pcY yX2_number_2 cX2_number_2 4 (Option.some Jvm.ClassFile.FieldType.int) 2 := ⟨q792, q150, ⟨by decide +kernel, by decide +kernel, by decide +kernel⟩, Nat.le_of_ble_eq_true rfl⟩
noncomputable def fX2_number_2_L34 (a0 : Nat) (k101 : Int32 → PH → Option ((Int32 ⊕ Nat) × PH)) (k61 : PH → Option ((Int32 ⊕ Nat) × PH)) (s34 : Int32 → PH → Option ((Int32 ⊕ Nat) × PH)) (x2 : Int32) (h10 : PH) : Option ((Int32 ⊕ Nat) × PH) :=
  vI (pF h10 a0 2 2) fun v4 =>
  ckc (pCls h10 a0) 2 <|
  bnd (fX2_byteAt a0 v4 h10) fun r4 h11 =>
  bnd (fX0_isDigit r4 h11) fun r5 h12 =>
  if (bI r5) = 0 then
    k101 x2 h12
  else
    vI (pF h12 a0 2 2) fun v5 =>
    vI (pF h12 a0 2 3) fun v6 =>
    if (v5 - v6) = (4 : Int32) then
      k61 h12
    else
      vI (pF h12 a0 2 2) fun v7 =>
      ckc (pCls h12 a0) 2 <|
      bnd (fX2_byteAt a0 v7 h12) fun r6 h13 =>
      vI (pF h13 a0 2 2) fun v8 =>
      bnv (pPut h13 a0 2 2 (.int (v8 + 1))) fun h14 =>
      s34 ((((10 : Int32) * x2) + r6) - 48) h14
noncomputable def fX2_number_2 (a0 : Nat) (a1 : Int32) (a2 : Int32) (h : PH) : Option ((Int32 ⊕ Nat) × PH) :=
  ckc (pCls h a0) 2 <|
  bnd (fX2_here a0 h) fun r1 h1 =>
  bnd (fX0_isDigit r1 h1) fun r2 h2 =>
  if (bI r2) = 0 then
    vI (pF h2 a0 2 2) fun v9 =>
    ckc (pCls h2 a0) 2 <|
    bnd (fX2_wrong a0 1 v9 h2) fun p3 h15 =>
    some (.inr p3, h15)
  else
    ckc (pCls h2 a0) 2 <|
    bnx (fX2_parted a0 h2) fun u1 h3 =>
    vI (pF h3 a0 2 2) fun v1 =>
    bnv (pPut h3 a0 2 3 (.int v1)) fun h4 =>
    jn (fun (x1 : Int32) (h5 : PH) =>
      bnd (fX0_is x1 a1 a2 h5) fun r3 h6 =>
      if (bI r3) = 0 then
        vI (pF h6 a0 2 3) fun v2 =>
        ckc (pCls h6 a0) 2 <|
        bnd (fX2_wrong a0 2 v2 h6) fun p1 h7 =>
        some (.inr p1, h7)
      else
        some (.inl x1, h6)) fun k101 =>
    jn (fun (h8 : PH) =>
      vI (pF h8 a0 2 2) fun v3 =>
      ckc (pCls h8 a0) 2 <|
      bnd (fX2_wrong a0 1 v3 h8) fun p2 h9 =>
      some (.inr p2, h9)) fun k61 =>
    fx (fX2_number_2_L34 a0 k101 k61) (fun _ _ => none) FU 0 h4
set_option maxHeartbeats 1000000 in
theorem kX2_number_2 {l : Launch} {D : PD} {A : Nat → Prop} {cap : Nat × Nat} {a0 : Nat} {a1 : Int32} {a2 : Int32} {h h' : PH} {r : Int32} (hf : fX2_number_2 a0 a1 a2 h = some (.inl r, h')) : CMet l D A cap yX2_number_2 cX2_number_2 4 (Option.some Jvm.ClassFile.FieldType.int) 3 [.ref a0, .int a1, .int a2] h h' (some (.int r)) := by
  unfold fX2_number_2 at hf
  refine p_head (own := RX2) (ini := false) (pn_X2 rfl) rfl (fun q => by cases q) (Nat.le_of_ble_eq_true rfl) (fun m Z cx sx H0 ls X hM hl => ?_)
  have G := X.g
  have hl : lv_has ls 4 [(0, .ref a0), (1, .int a1), (2, .int a2)] := hl
  refine g_aload_n G dX2_number_2_0 rfl (lv_at hl 0 rfl) ?_
  obtain ⟨b1, hf⟩ := ckc_open hf
  obtain ⟨r1, h1, g1, hf⟩ := bnd_open hf
  refine p_callV_r (ci := 2) (As := []) (rest := []) X hM hl rfl b1 pcy_X2_here q543 q545 qs4 (kX2_here g1) rfl (Nat.le_of_ble_eq_true rfl) (Nat.le_of_ble_eq_true rfl) rfl dX2_number_2_1 (fun H locs hM => ?_)
  obtain ⟨r2, h2, g2, hf⟩ := bnd_open hf
  refine p_callSN_r (As := [.int r1]) (rest := []) X hM hl pcy_X0_isDigit q570 q571 (kX0_isDigit g2) rfl (Nat.le_of_ble_eq_true rfl) (Nat.le_of_ble_eq_true rfl) rfl dX2_number_2_4 (fun H locs hM => ?_)
  refine g_if_ne (tgt := 20) G dX2_number_2_7 rfl (fun c1 => ?_) (fun c1 => ?_)
  · have hf := it_neg c1 hf
    refine g_aload_n G dX2_number_2_20 rfl (lv_at hl 0 rfl) ?_
    obtain ⟨b2, hf⟩ := ckc_open hf
    obtain ⟨u1, h3, g3, hf⟩ := bnx_ret hf
    refine p_callV_v (ci := 2) (As := []) (rest := []) X hM hl rfl b2 pcy_X2_parted q566 q568 qs9 (kX2_parted g3) rfl (Nat.le_of_ble_eq_true rfl) (Nat.le_of_ble_eq_true rfl) rfl dX2_number_2_21 (fun H locs hM => ?_)
    refine g_aload_n G dX2_number_2_24 rfl (lv_at hl 0 rfl) ?_
    refine g_aload_n G dX2_number_2_25 rfl (lv_at hl 0 rfl) ?_
    obtain ⟨v1, g5, hf⟩ := vI_open hf
    refine p_get (k := 2) X hM pc_2 (by decide) q351 rfl g5 dX2_number_2_26 ?_
    obtain ⟨h4, g6, hf⟩ := bnv_open hf
    refine p_put (k := 3) X hM pc_2 (by decide) q352 rfl rfl rfl rfl g6 dX2_number_2_29 (fun H locs hM => ?_)
    refine g_iconst (v := 0) G dX2_number_2_32 rfl ?_
    refine g_istore_n (i := 3) (lv' := [(3, .int 0), (0, .ref a0), (1, .int a1), (2, .int a2)]) G dX2_number_2_33 rfl hl (Nat.le_of_ble_eq_true rfl) rfl (fun ls hl => ?_)
    obtain ⟨k101, ek101, hf⟩ := jn_open hf
    have K101 : ∀ (x1 : Int32) (h5 : PH) (H : Heap) (locs : List Loc), k101 x1 h5 = some (.inl r, h') → PI D A cap H0 h5 H locs → ∀ ls : Array Slot, lv_has ls 4 [(0, .ref a0), (1, .int a1), (2, .int a2), (3, .int x1)] → Z H locs (cx H) (sx H) (F0 m 101 ls []) := by
      intro x1 h5 H locs hf hM ls hl
      rw [ek101] at hf
      refine g_iload_n G dX2_number_2_101 rfl (lv_at hl 3 rfl) ?_
      refine g_iload_n G dX2_number_2_102 rfl (lv_at hl 1 rfl) ?_
      refine g_iload_n G dX2_number_2_103 rfl (lv_at hl 2 rfl) ?_
      obtain ⟨r3, h6, g7, hf⟩ := bnd_open hf
      refine p_callSN_r (As := [.int x1, .int a1, .int a2]) (rest := []) X hM hl pcy_X0_is q793 q794 (kX0_is g7) rfl (Nat.le_of_ble_eq_true rfl) (Nat.le_of_ble_eq_true rfl) rfl dX2_number_2_104 (fun H locs hM => ?_)
      refine g_if_ne (tgt := 120) G dX2_number_2_107 rfl (fun c2 => ?_) (fun c2 => ?_)
      · have hf := it_neg c2 hf
        refine g_iload_n G dX2_number_2_120 rfl (lv_at hl 3 rfl) ?_
        cases hf
        exact p_iret X hM rfl dX2_number_2_121
      · have hf := it_pos c2 hf
        refine g_aload_n G dX2_number_2_110 rfl (lv_at hl 0 rfl) ?_
        refine g_iconst (v := 2) G dX2_number_2_111 rfl ?_
        refine g_aload_n G dX2_number_2_112 rfl (lv_at hl 0 rfl) ?_
        obtain ⟨v2, g8, hf⟩ := vI_open hf
        refine p_get (k := 3) X hM pc_2 (by decide) q352 rfl g8 dX2_number_2_113 ?_
        obtain ⟨b3, hf⟩ := ckc_open hf
        obtain ⟨p1, h7, g9, hf⟩ := bnd_open hf
        refine p_callV_r (ci := 2) (As := [.int 2, .int v2]) (rest := []) X hM hl rfl b3 pcy_X2_wrong q555 q557 qs7 (kX2_wrong g9) rfl (Nat.le_of_ble_eq_true rfl) (Nat.le_of_ble_eq_true rfl) rfl dX2_number_2_116 (fun H locs hM => ?_)
        exact absurd hf (by intro z; cases z)
    obtain ⟨k61, ek61, hf⟩ := jn_open hf
    have K61 : ∀ (h8 : PH) (H : Heap) (locs : List Loc), k61 h8 = some (.inl r, h') → PI D A cap H0 h8 H locs → ∀ ls : Array Slot, lv_has ls 4 [(0, .ref a0)] → Z H locs (cx H) (sx H) (F0 m 61 ls []) := by
      intro h8 H locs hf hM ls hl
      rw [ek61] at hf
      refine g_aload_n G dX2_number_2_61 rfl (lv_at hl 0 rfl) ?_
      refine g_iconst (v := 1) G dX2_number_2_62 rfl ?_
      refine g_aload_n G dX2_number_2_63 rfl (lv_at hl 0 rfl) ?_
      obtain ⟨v3, g10, hf⟩ := vI_open hf
      refine p_get (k := 2) X hM pc_2 (by decide) q351 rfl g10 dX2_number_2_64 ?_
      obtain ⟨b4, hf⟩ := ckc_open hf
      obtain ⟨p2, h9, g11, hf⟩ := bnd_open hf
      refine p_callV_r (ci := 2) (As := [.int 1, .int v3]) (rest := []) X hM hl rfl b4 pcy_X2_wrong q555 q557 qs7 (kX2_wrong g11) rfl (Nat.le_of_ble_eq_true rfl) (Nat.le_of_ble_eq_true rfl) rfl dX2_number_2_67 (fun H locs hM => ?_)
      exact absurd hf (by intro z; cases z)
    have L34 : ∀ (n : Nat) (x2 : Int32) (h10 : PH) (H : Heap) (locs : List Loc), fx (fX2_number_2_L34 a0 k101 k61) (fun _ _ => none) n x2 h10 = some (.inl r, h') → PI D A cap H0 h10 H locs → ∀ ls : Array Slot, lv_has ls 4 [(0, .ref a0), (1, .int a1), (2, .int a2), (3, .int x2)] → Z H locs (cx H) (sx H) (F0 m 34 ls []) := by
      intro n
      induction n with
      | zero => intro x2 h10 H locs hf; exact absurd hf (by intro q; cases q)
      | succ n ih34 =>
        intro x2 h10 H locs hf hM ls hl
        rw [fx_s] at hf
        generalize fx (fX2_number_2_L34 a0 k101 k61) (fun _ _ => none) n = s34 at hf ih34
        unfold fX2_number_2_L34 at hf
        refine g_aload_n G dX2_number_2_34 rfl (lv_at hl 0 rfl) ?_
        refine g_aload_n G dX2_number_2_35 rfl (lv_at hl 0 rfl) ?_
        obtain ⟨v4, g12, hf⟩ := vI_open hf
        refine p_get (k := 2) X hM pc_2 (by decide) q351 rfl g12 dX2_number_2_36 ?_
        obtain ⟨b5, hf⟩ := ckc_open hf
        obtain ⟨r4, h11, g13, hf⟩ := bnd_open hf
        refine p_callV_r (ci := 2) (As := [.int v4]) (rest := []) X hM hl rfl b5 pcy_X2_byteAt q547 q549 qs5 (kX2_byteAt g13) rfl (Nat.le_of_ble_eq_true rfl) (Nat.le_of_ble_eq_true rfl) rfl dX2_number_2_39 (fun H locs hM => ?_)
        obtain ⟨r5, h12, g14, hf⟩ := bnd_open hf
        refine p_callSN_r (As := [.int r4]) (rest := []) X hM hl pcy_X0_isDigit q570 q571 (kX0_isDigit g14) rfl (Nat.le_of_ble_eq_true rfl) (Nat.le_of_ble_eq_true rfl) rfl dX2_number_2_42 (fun H locs hM => ?_)
        refine g_if_eq (tgt := 101) G dX2_number_2_45 rfl (fun c3 => ?_) (fun c3 => ?_)
        · have hf := it_pos c3 hf
          exact K101 _ _ _ _ hf hM ls (lv_sub hl [0, 1, 2, 3] rfl)
        · have hf := it_neg c3 hf
          refine g_aload_n G dX2_number_2_48 rfl (lv_at hl 0 rfl) ?_
          obtain ⟨v5, g15, hf⟩ := vI_open hf
          refine p_get (k := 2) X hM pc_2 (by decide) q351 rfl g15 dX2_number_2_49 ?_
          refine g_aload_n G dX2_number_2_52 rfl (lv_at hl 0 rfl) ?_
          obtain ⟨v6, g16, hf⟩ := vI_open hf
          refine p_get (k := 3) X hM pc_2 (by decide) q352 rfl g16 dX2_number_2_53 ?_
          refine g_isub G dX2_number_2_56 ?_
          refine g_iconst (v := 4) G dX2_number_2_57 rfl ?_
          refine g_icmp_ne (tgt := 71) G dX2_number_2_58 rfl (fun c4 => ?_) (fun c4 => ?_)
          · have hf := it_neg c4 hf
            refine g_bipush (v := 10) G dX2_number_2_71 rfl ?_
            refine g_iload_n G dX2_number_2_73 rfl (lv_at hl 3 rfl) ?_
            refine g_imul G dX2_number_2_74 ?_
            refine g_aload_n G dX2_number_2_75 rfl (lv_at hl 0 rfl) ?_
            refine g_aload_n G dX2_number_2_76 rfl (lv_at hl 0 rfl) ?_
            obtain ⟨v7, g17, hf⟩ := vI_open hf
            refine p_get (k := 2) X hM pc_2 (by decide) q351 rfl g17 dX2_number_2_77 ?_
            obtain ⟨b6, hf⟩ := ckc_open hf
            obtain ⟨r6, h13, g18, hf⟩ := bnd_open hf
            refine p_callV_r (ci := 2) (As := [.int v7]) (rest := [.int ((10 : Int32) * x2)]) X hM hl rfl b6 pcy_X2_byteAt q547 q549 qs5 (kX2_byteAt g18) rfl (Nat.le_of_ble_eq_true rfl) (Nat.le_of_ble_eq_true rfl) rfl dX2_number_2_80 (fun H locs hM => ?_)
            refine g_iadd G dX2_number_2_83 ?_
            refine g_bipush (v := 48) G dX2_number_2_84 rfl ?_
            refine g_isub G dX2_number_2_86 ?_
            refine g_istore_n (i := 3) (lv' := [(3, .int ((((10 : Int32) * x2) + r6) - 48)), (0, .ref a0), (1, .int a1), (2, .int a2)]) G dX2_number_2_87 rfl hl (Nat.le_of_ble_eq_true rfl) rfl (fun ls hl => ?_)
            refine g_aload_n G dX2_number_2_88 rfl (lv_at hl 1 rfl) ?_
            refine g_dup G dX2_number_2_89 rfl ?_
            obtain ⟨v8, g19, hf⟩ := vI_open hf
            refine p_get (k := 2) X hM pc_2 (by decide) q351 rfl g19 dX2_number_2_90 ?_
            refine g_iconst (v := 1) G dX2_number_2_93 rfl ?_
            refine g_iadd G dX2_number_2_94 ?_
            obtain ⟨h14, g20, hf⟩ := bnv_open hf
            refine p_put (k := 2) X hM pc_2 (by decide) q351 rfl rfl rfl rfl g20 dX2_number_2_95 (fun H locs hM => ?_)
            refine g_goto (tgt := 34) G dX2_number_2_98 rfl ?_
            exact ih34 _ _ _ _ hf hM ls (lv_sub hl [1, 2, 3, 0] rfl)
          · have hf := it_pos c4 hf
            exact K61 _ _ _ hf hM ls (lv_sub hl [0] rfl)
    exact L34 FU _ _ _ _ hf hM ls (lv_sub hl [1, 2, 3, 0] rfl)
  · have hf := it_pos c1 hf
    refine g_aload_n G dX2_number_2_10 rfl (lv_at hl 0 rfl) ?_
    refine g_iconst (v := 1) G dX2_number_2_11 rfl ?_
    refine g_aload_n G dX2_number_2_12 rfl (lv_at hl 0 rfl) ?_
    obtain ⟨v9, g21, hf⟩ := vI_open hf
    refine p_get (k := 2) X hM pc_2 (by decide) q351 rfl g21 dX2_number_2_13 ?_
    obtain ⟨b7, hf⟩ := ckc_open hf
    obtain ⟨p3, h15, g22, hf⟩ := bnd_open hf
    refine p_callV_r (ci := 2) (As := [.int 1, .int v9]) (rest := []) X hM hl rfl b7 pcy_X2_wrong q555 q557 qs7 (kX2_wrong g22) rfl (Nat.le_of_ble_eq_true rfl) (Nat.le_of_ble_eq_true rfl) rfl dX2_number_2_16 (fun H locs hM => ?_)
    exact absurd hf (by intro z; cases z)
set_option maxHeartbeats 1000000 in
theorem xX2_number_2 {l : Launch} {D : PD} {A : Nat → Prop} {cap : Nat × Nat} {a0 : Nat} {a1 : Int32} {a2 : Int32} {h h' : PH} {q : Nat} (hf : fX2_number_2 a0 a1 a2 h = some (.inr q, h')) : XMet l D A cap yX2_number_2 cX2_number_2 4 (Option.some Jvm.ClassFile.FieldType.int) 3 [.ref a0, .int a1, .int a2] h h' (q) := by
  unfold fX2_number_2 at hf
  refine p_headT (own := RX2) (ini := false) (pn_X2 rfl) rfl (fun q => by cases q) (Nat.le_of_ble_eq_true rfl) (fun m Z cx sx H0 ls X XT hM hl => ?_)
  have G := X.g
  have hl : lv_has ls 4 [(0, .ref a0), (1, .int a1), (2, .int a2)] := hl
  refine g_aload_n G dX2_number_2_0 rfl (lv_at hl 0 rfl) ?_
  obtain ⟨b1, hf⟩ := ckc_open hf
  obtain ⟨r1, h1, g1, hf⟩ := bnd_open hf
  refine p_callV_r (ci := 2) (As := []) (rest := []) X hM hl rfl b1 pcy_X2_here q543 q545 qs4 (kX2_here g1) rfl (Nat.le_of_ble_eq_true rfl) (Nat.le_of_ble_eq_true rfl) rfl dX2_number_2_1 (fun H locs hM => ?_)
  obtain ⟨r2, h2, g2, hf⟩ := bnd_open hf
  refine p_callSN_r (As := [.int r1]) (rest := []) X hM hl pcy_X0_isDigit q570 q571 (kX0_isDigit g2) rfl (Nat.le_of_ble_eq_true rfl) (Nat.le_of_ble_eq_true rfl) rfl dX2_number_2_4 (fun H locs hM => ?_)
  refine g_if_ne (tgt := 20) G dX2_number_2_7 rfl (fun c1 => ?_) (fun c1 => ?_)
  · have hf := it_neg c1 hf
    refine g_aload_n G dX2_number_2_20 rfl (lv_at hl 0 rfl) ?_
    obtain ⟨b2, hf⟩ := ckc_open hf
    refine bnx_split hf (fun g4 => ?_) (fun u1 h3 g3 hf => ?_)
    · exact p_callT (ci := 2) (As := []) (rest := []) XT hM hl rfl b2 pcy_X2_parted q566 q568 qs9 (xX2_parted g4) rfl (Nat.le_of_ble_eq_true rfl) (Nat.le_of_ble_eq_true rfl) rfl dX2_number_2_21
    refine p_callV_v (ci := 2) (As := []) (rest := []) X hM hl rfl b2 pcy_X2_parted q566 q568 qs9 (kX2_parted g3) rfl (Nat.le_of_ble_eq_true rfl) (Nat.le_of_ble_eq_true rfl) rfl dX2_number_2_21 (fun H locs hM => ?_)
    refine g_aload_n G dX2_number_2_24 rfl (lv_at hl 0 rfl) ?_
    refine g_aload_n G dX2_number_2_25 rfl (lv_at hl 0 rfl) ?_
    obtain ⟨v1, g5, hf⟩ := vI_open hf
    refine p_get (k := 2) X hM pc_2 (by decide) q351 rfl g5 dX2_number_2_26 ?_
    obtain ⟨h4, g6, hf⟩ := bnv_open hf
    refine p_put (k := 3) X hM pc_2 (by decide) q352 rfl rfl rfl rfl g6 dX2_number_2_29 (fun H locs hM => ?_)
    refine g_iconst (v := 0) G dX2_number_2_32 rfl ?_
    refine g_istore_n (i := 3) (lv' := [(3, .int 0), (0, .ref a0), (1, .int a1), (2, .int a2)]) G dX2_number_2_33 rfl hl (Nat.le_of_ble_eq_true rfl) rfl (fun ls hl => ?_)
    obtain ⟨k101, ek101, hf⟩ := jn_open hf
    have K101 : ∀ (x1 : Int32) (h5 : PH) (H : Heap) (locs : List Loc), k101 x1 h5 = some (.inr q, h') → PI D A cap H0 h5 H locs → ∀ ls : Array Slot, lv_has ls 4 [(0, .ref a0), (1, .int a1), (2, .int a2), (3, .int x1)] → Z H locs (cx H) (sx H) (F0 m 101 ls []) := by
      intro x1 h5 H locs hf hM ls hl
      rw [ek101] at hf
      refine g_iload_n G dX2_number_2_101 rfl (lv_at hl 3 rfl) ?_
      refine g_iload_n G dX2_number_2_102 rfl (lv_at hl 1 rfl) ?_
      refine g_iload_n G dX2_number_2_103 rfl (lv_at hl 2 rfl) ?_
      obtain ⟨r3, h6, g7, hf⟩ := bnd_open hf
      refine p_callSN_r (As := [.int x1, .int a1, .int a2]) (rest := []) X hM hl pcy_X0_is q793 q794 (kX0_is g7) rfl (Nat.le_of_ble_eq_true rfl) (Nat.le_of_ble_eq_true rfl) rfl dX2_number_2_104 (fun H locs hM => ?_)
      refine g_if_ne (tgt := 120) G dX2_number_2_107 rfl (fun c2 => ?_) (fun c2 => ?_)
      · have hf := it_neg c2 hf
        refine g_iload_n G dX2_number_2_120 rfl (lv_at hl 3 rfl) ?_
        exact absurd hf (by intro z; cases z)
      · have hf := it_pos c2 hf
        refine g_aload_n G dX2_number_2_110 rfl (lv_at hl 0 rfl) ?_
        refine g_iconst (v := 2) G dX2_number_2_111 rfl ?_
        refine g_aload_n G dX2_number_2_112 rfl (lv_at hl 0 rfl) ?_
        obtain ⟨v2, g8, hf⟩ := vI_open hf
        refine p_get (k := 3) X hM pc_2 (by decide) q352 rfl g8 dX2_number_2_113 ?_
        obtain ⟨b3, hf⟩ := ckc_open hf
        obtain ⟨p1, h7, g9, hf⟩ := bnd_open hf
        refine p_callV_r (ci := 2) (As := [.int 2, .int v2]) (rest := []) X hM hl rfl b3 pcy_X2_wrong q555 q557 qs7 (kX2_wrong g9) rfl (Nat.le_of_ble_eq_true rfl) (Nat.le_of_ble_eq_true rfl) rfl dX2_number_2_116 (fun H locs hM => ?_)
        cases hf
        exact p_athrow XT hM dX2_number_2_119
    obtain ⟨k61, ek61, hf⟩ := jn_open hf
    have K61 : ∀ (h8 : PH) (H : Heap) (locs : List Loc), k61 h8 = some (.inr q, h') → PI D A cap H0 h8 H locs → ∀ ls : Array Slot, lv_has ls 4 [(0, .ref a0)] → Z H locs (cx H) (sx H) (F0 m 61 ls []) := by
      intro h8 H locs hf hM ls hl
      rw [ek61] at hf
      refine g_aload_n G dX2_number_2_61 rfl (lv_at hl 0 rfl) ?_
      refine g_iconst (v := 1) G dX2_number_2_62 rfl ?_
      refine g_aload_n G dX2_number_2_63 rfl (lv_at hl 0 rfl) ?_
      obtain ⟨v3, g10, hf⟩ := vI_open hf
      refine p_get (k := 2) X hM pc_2 (by decide) q351 rfl g10 dX2_number_2_64 ?_
      obtain ⟨b4, hf⟩ := ckc_open hf
      obtain ⟨p2, h9, g11, hf⟩ := bnd_open hf
      refine p_callV_r (ci := 2) (As := [.int 1, .int v3]) (rest := []) X hM hl rfl b4 pcy_X2_wrong q555 q557 qs7 (kX2_wrong g11) rfl (Nat.le_of_ble_eq_true rfl) (Nat.le_of_ble_eq_true rfl) rfl dX2_number_2_67 (fun H locs hM => ?_)
      cases hf
      exact p_athrow XT hM dX2_number_2_70
    have L34 : ∀ (n : Nat) (x2 : Int32) (h10 : PH) (H : Heap) (locs : List Loc), fx (fX2_number_2_L34 a0 k101 k61) (fun _ _ => none) n x2 h10 = some (.inr q, h') → PI D A cap H0 h10 H locs → ∀ ls : Array Slot, lv_has ls 4 [(0, .ref a0), (1, .int a1), (2, .int a2), (3, .int x2)] → Z H locs (cx H) (sx H) (F0 m 34 ls []) := by
      intro n
      induction n with
      | zero => intro x2 h10 H locs hf; exact absurd hf (by intro q; cases q)
      | succ n ih34 =>
        intro x2 h10 H locs hf hM ls hl
        rw [fx_s] at hf
        generalize fx (fX2_number_2_L34 a0 k101 k61) (fun _ _ => none) n = s34 at hf ih34
        unfold fX2_number_2_L34 at hf
        refine g_aload_n G dX2_number_2_34 rfl (lv_at hl 0 rfl) ?_
        refine g_aload_n G dX2_number_2_35 rfl (lv_at hl 0 rfl) ?_
        obtain ⟨v4, g12, hf⟩ := vI_open hf
        refine p_get (k := 2) X hM pc_2 (by decide) q351 rfl g12 dX2_number_2_36 ?_
        obtain ⟨b5, hf⟩ := ckc_open hf
        obtain ⟨r4, h11, g13, hf⟩ := bnd_open hf
        refine p_callV_r (ci := 2) (As := [.int v4]) (rest := []) X hM hl rfl b5 pcy_X2_byteAt q547 q549 qs5 (kX2_byteAt g13) rfl (Nat.le_of_ble_eq_true rfl) (Nat.le_of_ble_eq_true rfl) rfl dX2_number_2_39 (fun H locs hM => ?_)
        obtain ⟨r5, h12, g14, hf⟩ := bnd_open hf
        refine p_callSN_r (As := [.int r4]) (rest := []) X hM hl pcy_X0_isDigit q570 q571 (kX0_isDigit g14) rfl (Nat.le_of_ble_eq_true rfl) (Nat.le_of_ble_eq_true rfl) rfl dX2_number_2_42 (fun H locs hM => ?_)
        refine g_if_eq (tgt := 101) G dX2_number_2_45 rfl (fun c3 => ?_) (fun c3 => ?_)
        · have hf := it_pos c3 hf
          exact K101 _ _ _ _ hf hM ls (lv_sub hl [0, 1, 2, 3] rfl)
        · have hf := it_neg c3 hf
          refine g_aload_n G dX2_number_2_48 rfl (lv_at hl 0 rfl) ?_
          obtain ⟨v5, g15, hf⟩ := vI_open hf
          refine p_get (k := 2) X hM pc_2 (by decide) q351 rfl g15 dX2_number_2_49 ?_
          refine g_aload_n G dX2_number_2_52 rfl (lv_at hl 0 rfl) ?_
          obtain ⟨v6, g16, hf⟩ := vI_open hf
          refine p_get (k := 3) X hM pc_2 (by decide) q352 rfl g16 dX2_number_2_53 ?_
          refine g_isub G dX2_number_2_56 ?_
          refine g_iconst (v := 4) G dX2_number_2_57 rfl ?_
          refine g_icmp_ne (tgt := 71) G dX2_number_2_58 rfl (fun c4 => ?_) (fun c4 => ?_)
          · have hf := it_neg c4 hf
            refine g_bipush (v := 10) G dX2_number_2_71 rfl ?_
            refine g_iload_n G dX2_number_2_73 rfl (lv_at hl 3 rfl) ?_
            refine g_imul G dX2_number_2_74 ?_
            refine g_aload_n G dX2_number_2_75 rfl (lv_at hl 0 rfl) ?_
            refine g_aload_n G dX2_number_2_76 rfl (lv_at hl 0 rfl) ?_
            obtain ⟨v7, g17, hf⟩ := vI_open hf
            refine p_get (k := 2) X hM pc_2 (by decide) q351 rfl g17 dX2_number_2_77 ?_
            obtain ⟨b6, hf⟩ := ckc_open hf
            obtain ⟨r6, h13, g18, hf⟩ := bnd_open hf
            refine p_callV_r (ci := 2) (As := [.int v7]) (rest := [.int ((10 : Int32) * x2)]) X hM hl rfl b6 pcy_X2_byteAt q547 q549 qs5 (kX2_byteAt g18) rfl (Nat.le_of_ble_eq_true rfl) (Nat.le_of_ble_eq_true rfl) rfl dX2_number_2_80 (fun H locs hM => ?_)
            refine g_iadd G dX2_number_2_83 ?_
            refine g_bipush (v := 48) G dX2_number_2_84 rfl ?_
            refine g_isub G dX2_number_2_86 ?_
            refine g_istore_n (i := 3) (lv' := [(3, .int ((((10 : Int32) * x2) + r6) - 48)), (0, .ref a0), (1, .int a1), (2, .int a2)]) G dX2_number_2_87 rfl hl (Nat.le_of_ble_eq_true rfl) rfl (fun ls hl => ?_)
            refine g_aload_n G dX2_number_2_88 rfl (lv_at hl 1 rfl) ?_
            refine g_dup G dX2_number_2_89 rfl ?_
            obtain ⟨v8, g19, hf⟩ := vI_open hf
            refine p_get (k := 2) X hM pc_2 (by decide) q351 rfl g19 dX2_number_2_90 ?_
            refine g_iconst (v := 1) G dX2_number_2_93 rfl ?_
            refine g_iadd G dX2_number_2_94 ?_
            obtain ⟨h14, g20, hf⟩ := bnv_open hf
            refine p_put (k := 2) X hM pc_2 (by decide) q351 rfl rfl rfl rfl g20 dX2_number_2_95 (fun H locs hM => ?_)
            refine g_goto (tgt := 34) G dX2_number_2_98 rfl ?_
            exact ih34 _ _ _ _ hf hM ls (lv_sub hl [1, 2, 3, 0] rfl)
          · have hf := it_pos c4 hf
            exact K61 _ _ _ hf hM ls (lv_sub hl [0] rfl)
    exact L34 FU _ _ _ _ hf hM ls (lv_sub hl [1, 2, 3, 0] rfl)
  · have hf := it_pos c1 hf
    refine g_aload_n G dX2_number_2_10 rfl (lv_at hl 0 rfl) ?_
    refine g_iconst (v := 1) G dX2_number_2_11 rfl ?_
    refine g_aload_n G dX2_number_2_12 rfl (lv_at hl 0 rfl) ?_
    obtain ⟨v9, g21, hf⟩ := vI_open hf
    refine p_get (k := 2) X hM pc_2 (by decide) q351 rfl g21 dX2_number_2_13 ?_
    obtain ⟨b7, hf⟩ := ckc_open hf
    obtain ⟨p3, h15, g22, hf⟩ := bnd_open hf
    refine p_callV_r (ci := 2) (As := [.int 1, .int v9]) (rest := []) X hM hl rfl b7 pcy_X2_wrong q555 q557 qs7 (kX2_wrong g22) rfl (Nat.le_of_ble_eq_true rfl) (Nat.le_of_ble_eq_true rfl) rfl dX2_number_2_16 (fun H locs hM => ?_)
    cases hf
    exact p_athrow XT hM dX2_number_2_19
theorem pcy_X2_number : pcY yX2_number cX2_number 4 (Option.some Jvm.ClassFile.FieldType.int) 3 := ⟨q784, q150, ⟨by decide +kernel, by decide +kernel, by decide +kernel⟩, Nat.le_of_ble_eq_true rfl⟩
noncomputable def fX2_number (D : PD) (cap : Nat × Nat) (a0 : Nat) (a1 : Nat) (a2 : Int32) (a3 : Int32) (h : PH) : Option ((Int32 ⊕ Nat) × PH) :=
  ckc (pCls h a0) 2 <|
  bnx (fX2_word_2 D cap a0 a1 h) fun u1 h1 =>
  ckc (pCls h1 a0) 2 <|
  bnx (fX2_number_2 a0 a2 a3 h1) fun r1 h2 =>
  some (.inl r1, h2)
set_option maxHeartbeats 1000000 in
theorem kX2_number {l : Launch} {D : PD} {A : Nat → Prop} {cap : Nat × Nat} {a0 : Nat} {a1 : Nat} {a2 : Int32} {a3 : Int32} {h h' : PH} {r : Int32} (hf : fX2_number D cap a0 a1 a2 a3 h = some (.inl r, h')) : CMet l D A cap yX2_number cX2_number 4 (Option.some Jvm.ClassFile.FieldType.int) 8 [.ref a0, .ref a1, .int a2, .int a3] h h' (some (.int r)) := by
  unfold fX2_number at hf
  refine p_head (own := RX2) (ini := false) (pn_X2 rfl) rfl (fun q => by cases q) (Nat.le_of_ble_eq_true rfl) (fun m Z cx sx H0 ls X hM hl => ?_)
  have G := X.g
  have hl : lv_has ls 4 [(0, .ref a0), (1, .ref a1), (2, .int a2), (3, .int a3)] := hl
  refine g_aload_n G dX2_number_0 rfl (lv_at hl 0 rfl) ?_
  refine g_aload_n G dX2_number_1 rfl (lv_at hl 1 rfl) ?_
  obtain ⟨b1, hf⟩ := ckc_open hf
  obtain ⟨u1, h1, g1, hf⟩ := bnx_ret hf
  refine p_callV_v (ci := 2) (As := [.ref a1]) (rest := []) X hM hl rfl b1 pcy_X2_word_2 q785 q787 qs14 (kX2_word_2 g1) rfl (Nat.le_of_ble_eq_true rfl) (Nat.le_of_ble_eq_true rfl) rfl dX2_number_2 (fun H locs hM => ?_)
  refine g_aload_n G dX2_number_5 rfl (lv_at hl 0 rfl) ?_
  refine g_iload_n G dX2_number_6 rfl (lv_at hl 2 rfl) ?_
  refine g_iload_n G dX2_number_7 rfl (lv_at hl 3 rfl) ?_
  obtain ⟨b2, hf⟩ := ckc_open hf
  obtain ⟨r1, h2, g3, hf⟩ := bnx_ret hf
  refine p_callV_r (ci := 2) (As := [.int a2, .int a3]) (rest := []) X hM hl rfl b2 pcy_X2_number_2 q789 q791 qs15 (kX2_number_2 g3) rfl (Nat.le_of_ble_eq_true rfl) (Nat.le_of_ble_eq_true rfl) rfl dX2_number_8 (fun H locs hM => ?_)
  cases hf
  exact p_iret X hM rfl dX2_number_11
set_option maxHeartbeats 1000000 in
theorem xX2_number {l : Launch} {D : PD} {A : Nat → Prop} {cap : Nat × Nat} {a0 : Nat} {a1 : Nat} {a2 : Int32} {a3 : Int32} {h h' : PH} {q : Nat} (hf : fX2_number D cap a0 a1 a2 a3 h = some (.inr q, h')) : XMet l D A cap yX2_number cX2_number 4 (Option.some Jvm.ClassFile.FieldType.int) 8 [.ref a0, .ref a1, .int a2, .int a3] h h' (q) := by
  unfold fX2_number at hf
  refine p_headT (own := RX2) (ini := false) (pn_X2 rfl) rfl (fun q => by cases q) (Nat.le_of_ble_eq_true rfl) (fun m Z cx sx H0 ls X XT hM hl => ?_)
  have G := X.g
  have hl : lv_has ls 4 [(0, .ref a0), (1, .ref a1), (2, .int a2), (3, .int a3)] := hl
  refine g_aload_n G dX2_number_0 rfl (lv_at hl 0 rfl) ?_
  refine g_aload_n G dX2_number_1 rfl (lv_at hl 1 rfl) ?_
  obtain ⟨b1, hf⟩ := ckc_open hf
  refine bnx_split hf (fun g2 => ?_) (fun u1 h1 g1 hf => ?_)
  · exact p_callT (ci := 2) (As := [.ref a1]) (rest := []) XT hM hl rfl b1 pcy_X2_word_2 q785 q787 qs14 (xX2_word_2 g2) rfl (Nat.le_of_ble_eq_true rfl) (Nat.le_of_ble_eq_true rfl) rfl dX2_number_2
  refine p_callV_v (ci := 2) (As := [.ref a1]) (rest := []) X hM hl rfl b1 pcy_X2_word_2 q785 q787 qs14 (kX2_word_2 g1) rfl (Nat.le_of_ble_eq_true rfl) (Nat.le_of_ble_eq_true rfl) rfl dX2_number_2 (fun H locs hM => ?_)
  refine g_aload_n G dX2_number_5 rfl (lv_at hl 0 rfl) ?_
  refine g_iload_n G dX2_number_6 rfl (lv_at hl 2 rfl) ?_
  refine g_iload_n G dX2_number_7 rfl (lv_at hl 3 rfl) ?_
  obtain ⟨b2, hf⟩ := ckc_open hf
  refine bnx_split hf (fun g4 => ?_) (fun r1 h2 g3 hf => ?_)
  · exact p_callT (ci := 2) (As := [.int a2, .int a3]) (rest := []) XT hM hl rfl b2 pcy_X2_number_2 q789 q791 qs15 (xX2_number_2 g4) rfl (Nat.le_of_ble_eq_true rfl) (Nat.le_of_ble_eq_true rfl) rfl dX2_number_8
  refine p_callV_r (ci := 2) (As := [.int a2, .int a3]) (rest := []) X hM hl rfl b2 pcy_X2_number_2 q789 q791 qs15 (kX2_number_2 g3) rfl (Nat.le_of_ble_eq_true rfl) (Nat.le_of_ble_eq_true rfl) rfl dX2_number_8 (fun H locs hM => ?_)
  exact absurd hf (by intro z; cases z)
theorem pcy_X2_fresh : pcY yX2_fresh cX2_fresh 2 (Option.some (Jvm.ClassFile.FieldType.object "java/lang/String")) 0 := ⟨q733, q150, ⟨by decide +kernel, by decide +kernel, by decide +kernel⟩, Nat.le_of_ble_eq_true rfl⟩
noncomputable def fX2_fresh (D : PD) (cap : Nat × Nat) (a0 : Nat) (h : PH) : Option ((Nat ⊕ Nat) × PH) :=
  ckc (pCls h a0) 2 <|
  bnx (fX2_name D cap a0 h) fun p1 h1 =>
  vA (pF h1 a0 2 6) fun p2 =>
  vA (pF h1 p2 1 4) fun p3 =>
  bnd (fX7_find D p3 p1 h1) fun r1 h2 =>
  jn (fun (h3 : PH) =>
    vI (pF h3 a0 2 3) fun v1 =>
    ckc (pCls h3 a0) 2 <|
    bnd (fX2_wrong a0 3 v1 h3) fun p4 h4 =>
    some (.inr p4, h4)) fun j35 =>
  if r1 = ((-1) : Int32) then
    vA (pF h2 a0 2 6) fun p5 =>
    vA (pF h2 p5 1 5) fun p6 =>
    bnd (fX7_find D p6 p1 h2) fun r2 h5 =>
    if r2 = ((-1) : Int32) then
      some (.inl p1, h5)
    else
      j35 h5
  else
    j35 h2
set_option maxHeartbeats 1000000 in
theorem kX2_fresh {l : Launch} {D : PD} {A : Nat → Prop} {cap : Nat × Nat} {a0 : Nat} {h h' : PH} {r : Nat} (hf : fX2_fresh D cap a0 h = some (.inl r, h')) : CMet l D A cap yX2_fresh cX2_fresh 2 (Option.some (Jvm.ClassFile.FieldType.object "java/lang/String")) 8 [.ref a0] h h' (some (.ref r)) := by
  unfold fX2_fresh at hf
  refine p_head (own := RX2) (ini := false) (pn_X2 rfl) rfl (fun q => by cases q) (Nat.le_of_ble_eq_true rfl) (fun m Z cx sx H0 ls X hM hl => ?_)
  have G := X.g
  have hl : lv_has ls 2 [(0, .ref a0)] := hl
  refine g_aload_n G dX2_fresh_0 rfl (lv_at hl 0 rfl) ?_
  obtain ⟨b1, hf⟩ := ckc_open hf
  obtain ⟨p1, h1, g1, hf⟩ := bnx_ret hf
  refine p_callV_r (ci := 2) (As := []) (rest := []) X hM hl rfl b1 pcy_X2_name q734 q736 qs12 (kX2_name g1) rfl (Nat.le_of_ble_eq_true rfl) (Nat.le_of_ble_eq_true rfl) rfl dX2_fresh_1 (fun H locs hM => ?_)
  refine g_astore_n (i := 1) (lv' := [(1, .ref p1), (0, .ref a0)]) G dX2_fresh_4 rfl hl (Nat.le_of_ble_eq_true rfl) rfl (fun ls hl => ?_)
  refine g_aload_n G dX2_fresh_5 rfl (lv_at hl 1 rfl) ?_
  obtain ⟨p2, g3, hf⟩ := vA_open hf
  refine p_get (k := 6) X hM pc_2 (by decide) q355 rfl g3 dX2_fresh_6 ?_
  obtain ⟨p3, g4, hf⟩ := vA_open hf
  refine p_getN (k := 4) X hM pc_1 (by decide) q239 rfl g4 dX2_fresh_9 ?_
  refine g_aload_n G dX2_fresh_12 rfl (lv_at hl 0 rfl) ?_
  obtain ⟨r1, h2, g5, hf⟩ := bnd_open hf
  refine p_callS_r (As := [.ref p3, .ref p1]) (rest := []) X hM hl pcy_X7_find q752 q753 (kX7_find g5) rfl (Nat.le_of_ble_eq_true rfl) (Nat.le_of_ble_eq_true rfl) rfl dX2_fresh_13 (fun H locs hM => ?_)
  refine g_iconst (v := (-1)) G dX2_fresh_16 rfl ?_
  obtain ⟨j35, ej35, hf⟩ := jn_open hf
  have J35 : ∀ (h3 : PH) (H : Heap) (locs : List Loc), j35 h3 = some (.inl r, h') → PI D A cap H0 h3 H locs → ∀ ls : Array Slot, lv_has ls 2 [(0, .ref a0)] → Z H locs (cx H) (sx H) (F0 m 35 ls []) := by
    intro h3 H locs hf hM ls hl
    rw [ej35] at hf
    refine g_aload_n G dX2_fresh_35 rfl (lv_at hl 0 rfl) ?_
    refine g_iconst (v := 3) G dX2_fresh_36 rfl ?_
    refine g_aload_n G dX2_fresh_37 rfl (lv_at hl 0 rfl) ?_
    obtain ⟨v1, g6, hf⟩ := vI_open hf
    refine p_get (k := 3) X hM pc_2 (by decide) q352 rfl g6 dX2_fresh_38 ?_
    obtain ⟨b2, hf⟩ := ckc_open hf
    obtain ⟨p4, h4, g7, hf⟩ := bnd_open hf
    refine p_callV_r (ci := 2) (As := [.int 3, .int v1]) (rest := []) X hM hl rfl b2 pcy_X2_wrong q555 q557 qs7 (kX2_wrong g7) rfl (Nat.le_of_ble_eq_true rfl) (Nat.le_of_ble_eq_true rfl) rfl dX2_fresh_41 (fun H locs hM => ?_)
    exact absurd hf (by intro z; cases z)
  refine g_icmp_ne (tgt := 35) G dX2_fresh_17 rfl (fun c1 => ?_) (fun c1 => ?_)
  · have hf := it_neg c1 hf
    exact J35 _ _ _ hf hM ls (lv_sub hl [1] rfl)
  · have hf := it_pos c1 hf
    refine g_aload_n G dX2_fresh_20 rfl (lv_at hl 1 rfl) ?_
    obtain ⟨p5, g8, hf⟩ := vA_open hf
    refine p_get (k := 6) X hM pc_2 (by decide) q355 rfl g8 dX2_fresh_21 ?_
    obtain ⟨p6, g9, hf⟩ := vA_open hf
    refine p_getN (k := 5) X hM pc_1 (by decide) q243 rfl g9 dX2_fresh_24 ?_
    refine g_aload_n G dX2_fresh_27 rfl (lv_at hl 0 rfl) ?_
    obtain ⟨r2, h5, g10, hf⟩ := bnd_open hf
    refine p_callS_r (As := [.ref p6, .ref p1]) (rest := []) X hM hl pcy_X7_find q752 q753 (kX7_find g10) rfl (Nat.le_of_ble_eq_true rfl) (Nat.le_of_ble_eq_true rfl) rfl dX2_fresh_28 (fun H locs hM => ?_)
    refine g_iconst (v := (-1)) G dX2_fresh_31 rfl ?_
    refine g_icmp_eq (tgt := 45) G dX2_fresh_32 rfl (fun c2 => ?_) (fun c2 => ?_)
    · have hf := it_pos c2 hf
      refine g_aload_n G dX2_fresh_45 rfl (lv_at hl 0 rfl) ?_
      cases hf
      exact p_aret X (Or.inl ⟨_, rfl⟩) hM rfl dX2_fresh_46
    · have hf := it_neg c2 hf
      exact J35 _ _ _ hf hM ls (lv_sub hl [1] rfl)
set_option maxHeartbeats 1000000 in
theorem xX2_fresh {l : Launch} {D : PD} {A : Nat → Prop} {cap : Nat × Nat} {a0 : Nat} {h h' : PH} {q : Nat} (hf : fX2_fresh D cap a0 h = some (.inr q, h')) : XMet l D A cap yX2_fresh cX2_fresh 2 (Option.some (Jvm.ClassFile.FieldType.object "java/lang/String")) 8 [.ref a0] h h' (q) := by
  unfold fX2_fresh at hf
  refine p_headT (own := RX2) (ini := false) (pn_X2 rfl) rfl (fun q => by cases q) (Nat.le_of_ble_eq_true rfl) (fun m Z cx sx H0 ls X XT hM hl => ?_)
  have G := X.g
  have hl : lv_has ls 2 [(0, .ref a0)] := hl
  refine g_aload_n G dX2_fresh_0 rfl (lv_at hl 0 rfl) ?_
  obtain ⟨b1, hf⟩ := ckc_open hf
  refine bnx_split hf (fun g2 => ?_) (fun p1 h1 g1 hf => ?_)
  · exact p_callT (ci := 2) (As := []) (rest := []) XT hM hl rfl b1 pcy_X2_name q734 q736 qs12 (xX2_name g2) rfl (Nat.le_of_ble_eq_true rfl) (Nat.le_of_ble_eq_true rfl) rfl dX2_fresh_1
  refine p_callV_r (ci := 2) (As := []) (rest := []) X hM hl rfl b1 pcy_X2_name q734 q736 qs12 (kX2_name g1) rfl (Nat.le_of_ble_eq_true rfl) (Nat.le_of_ble_eq_true rfl) rfl dX2_fresh_1 (fun H locs hM => ?_)
  refine g_astore_n (i := 1) (lv' := [(1, .ref p1), (0, .ref a0)]) G dX2_fresh_4 rfl hl (Nat.le_of_ble_eq_true rfl) rfl (fun ls hl => ?_)
  refine g_aload_n G dX2_fresh_5 rfl (lv_at hl 1 rfl) ?_
  obtain ⟨p2, g3, hf⟩ := vA_open hf
  refine p_get (k := 6) X hM pc_2 (by decide) q355 rfl g3 dX2_fresh_6 ?_
  obtain ⟨p3, g4, hf⟩ := vA_open hf
  refine p_getN (k := 4) X hM pc_1 (by decide) q239 rfl g4 dX2_fresh_9 ?_
  refine g_aload_n G dX2_fresh_12 rfl (lv_at hl 0 rfl) ?_
  obtain ⟨r1, h2, g5, hf⟩ := bnd_open hf
  refine p_callS_r (As := [.ref p3, .ref p1]) (rest := []) X hM hl pcy_X7_find q752 q753 (kX7_find g5) rfl (Nat.le_of_ble_eq_true rfl) (Nat.le_of_ble_eq_true rfl) rfl dX2_fresh_13 (fun H locs hM => ?_)
  refine g_iconst (v := (-1)) G dX2_fresh_16 rfl ?_
  obtain ⟨j35, ej35, hf⟩ := jn_open hf
  have J35 : ∀ (h3 : PH) (H : Heap) (locs : List Loc), j35 h3 = some (.inr q, h') → PI D A cap H0 h3 H locs → ∀ ls : Array Slot, lv_has ls 2 [(0, .ref a0)] → Z H locs (cx H) (sx H) (F0 m 35 ls []) := by
    intro h3 H locs hf hM ls hl
    rw [ej35] at hf
    refine g_aload_n G dX2_fresh_35 rfl (lv_at hl 0 rfl) ?_
    refine g_iconst (v := 3) G dX2_fresh_36 rfl ?_
    refine g_aload_n G dX2_fresh_37 rfl (lv_at hl 0 rfl) ?_
    obtain ⟨v1, g6, hf⟩ := vI_open hf
    refine p_get (k := 3) X hM pc_2 (by decide) q352 rfl g6 dX2_fresh_38 ?_
    obtain ⟨b2, hf⟩ := ckc_open hf
    obtain ⟨p4, h4, g7, hf⟩ := bnd_open hf
    refine p_callV_r (ci := 2) (As := [.int 3, .int v1]) (rest := []) X hM hl rfl b2 pcy_X2_wrong q555 q557 qs7 (kX2_wrong g7) rfl (Nat.le_of_ble_eq_true rfl) (Nat.le_of_ble_eq_true rfl) rfl dX2_fresh_41 (fun H locs hM => ?_)
    cases hf
    exact p_athrow XT hM dX2_fresh_44
  refine g_icmp_ne (tgt := 35) G dX2_fresh_17 rfl (fun c1 => ?_) (fun c1 => ?_)
  · have hf := it_neg c1 hf
    exact J35 _ _ _ hf hM ls (lv_sub hl [1] rfl)
  · have hf := it_pos c1 hf
    refine g_aload_n G dX2_fresh_20 rfl (lv_at hl 1 rfl) ?_
    obtain ⟨p5, g8, hf⟩ := vA_open hf
    refine p_get (k := 6) X hM pc_2 (by decide) q355 rfl g8 dX2_fresh_21 ?_
    obtain ⟨p6, g9, hf⟩ := vA_open hf
    refine p_getN (k := 5) X hM pc_1 (by decide) q243 rfl g9 dX2_fresh_24 ?_
    refine g_aload_n G dX2_fresh_27 rfl (lv_at hl 0 rfl) ?_
    obtain ⟨r2, h5, g10, hf⟩ := bnd_open hf
    refine p_callS_r (As := [.ref p6, .ref p1]) (rest := []) X hM hl pcy_X7_find q752 q753 (kX7_find g10) rfl (Nat.le_of_ble_eq_true rfl) (Nat.le_of_ble_eq_true rfl) rfl dX2_fresh_28 (fun H locs hM => ?_)
    refine g_iconst (v := (-1)) G dX2_fresh_31 rfl ?_
    refine g_icmp_eq (tgt := 45) G dX2_fresh_32 rfl (fun c2 => ?_) (fun c2 => ?_)
    · have hf := it_pos c2 hf
      refine g_aload_n G dX2_fresh_45 rfl (lv_at hl 0 rfl) ?_
      exact absurd hf (by intro z; cases z)
    · have hf := it_neg c2 hf
      exact J35 _ _ _ hf hM ls (lv_sub hl [1] rfl)
theorem pcy_X2_known : pcY yX2_known cX2_known 3 (Option.some Jvm.ClassFile.FieldType.int) 1 := ⟨q910, q150, ⟨by decide +kernel, by decide +kernel, by decide +kernel⟩, Nat.le_of_ble_eq_true rfl⟩
noncomputable def fX2_known (D : PD) (cap : Nat × Nat) (a0 : Nat) (a1 : Nat) (h : PH) : Option ((Int32 ⊕ Nat) × PH) :=
  ckc (pCls h a0) 2 <|
  bnx (fX2_name D cap a0 h) fun p1 h1 =>
  bnd (fX7_find D a1 p1 h1) fun r1 h2 =>
  if r1 = ((-1) : Int32) then
    vI (pF h2 a0 2 3) fun v1 =>
    ckc (pCls h2 a0) 2 <|
    bnd (fX2_wrong a0 3 v1 h2) fun p2 h3 =>
    some (.inr p2, h3)
  else
    some (.inl r1, h2)
set_option maxHeartbeats 1000000 in
theorem kX2_known {l : Launch} {D : PD} {A : Nat → Prop} {cap : Nat × Nat} {a0 : Nat} {a1 : Nat} {h h' : PH} {r : Int32} (hf : fX2_known D cap a0 a1 h = some (.inl r, h')) : CMet l D A cap yX2_known cX2_known 3 (Option.some Jvm.ClassFile.FieldType.int) 8 [.ref a0, .ref a1] h h' (some (.int r)) := by
  unfold fX2_known at hf
  refine p_head (own := RX2) (ini := false) (pn_X2 rfl) rfl (fun q => by cases q) (Nat.le_of_ble_eq_true rfl) (fun m Z cx sx H0 ls X hM hl => ?_)
  have G := X.g
  have hl : lv_has ls 3 [(0, .ref a0), (1, .ref a1)] := hl
  refine g_aload_n G dX2_known_0 rfl (lv_at hl 1 rfl) ?_
  refine g_aload_n G dX2_known_1 rfl (lv_at hl 0 rfl) ?_
  obtain ⟨b1, hf⟩ := ckc_open hf
  obtain ⟨p1, h1, g1, hf⟩ := bnx_ret hf
  refine p_callV_r (ci := 2) (As := []) (rest := [.ref a1]) X hM hl rfl b1 pcy_X2_name q734 q736 qs12 (kX2_name g1) rfl (Nat.le_of_ble_eq_true rfl) (Nat.le_of_ble_eq_true rfl) rfl dX2_known_2 (fun H locs hM => ?_)
  obtain ⟨r1, h2, g3, hf⟩ := bnd_open hf
  refine p_callS_r (As := [.ref a1, .ref p1]) (rest := []) X hM hl pcy_X7_find q752 q753 (kX7_find g3) rfl (Nat.le_of_ble_eq_true rfl) (Nat.le_of_ble_eq_true rfl) rfl dX2_known_5 (fun H locs hM => ?_)
  refine g_istore_n (i := 2) (lv' := [(2, .int r1), (0, .ref a0), (1, .ref a1)]) G dX2_known_8 rfl hl (Nat.le_of_ble_eq_true rfl) rfl (fun ls hl => ?_)
  refine g_iload_n G dX2_known_9 rfl (lv_at hl 0 rfl) ?_
  refine g_iconst (v := (-1)) G dX2_known_10 rfl ?_
  refine g_icmp_ne (tgt := 24) G dX2_known_11 rfl (fun c1 => ?_) (fun c1 => ?_)
  · have hf := it_neg c1 hf
    refine g_iload_n G dX2_known_24 rfl (lv_at hl 0 rfl) ?_
    cases hf
    exact p_iret X hM rfl dX2_known_25
  · have hf := it_pos c1 hf
    refine g_aload_n G dX2_known_14 rfl (lv_at hl 1 rfl) ?_
    refine g_iconst (v := 3) G dX2_known_15 rfl ?_
    refine g_aload_n G dX2_known_16 rfl (lv_at hl 1 rfl) ?_
    obtain ⟨v1, g4, hf⟩ := vI_open hf
    refine p_get (k := 3) X hM pc_2 (by decide) q352 rfl g4 dX2_known_17 ?_
    obtain ⟨b2, hf⟩ := ckc_open hf
    obtain ⟨p2, h3, g5, hf⟩ := bnd_open hf
    refine p_callV_r (ci := 2) (As := [.int 3, .int v1]) (rest := []) X hM hl rfl b2 pcy_X2_wrong q555 q557 qs7 (kX2_wrong g5) rfl (Nat.le_of_ble_eq_true rfl) (Nat.le_of_ble_eq_true rfl) rfl dX2_known_20 (fun H locs hM => ?_)
    exact absurd hf (by intro z; cases z)
set_option maxHeartbeats 1000000 in
theorem xX2_known {l : Launch} {D : PD} {A : Nat → Prop} {cap : Nat × Nat} {a0 : Nat} {a1 : Nat} {h h' : PH} {q : Nat} (hf : fX2_known D cap a0 a1 h = some (.inr q, h')) : XMet l D A cap yX2_known cX2_known 3 (Option.some Jvm.ClassFile.FieldType.int) 8 [.ref a0, .ref a1] h h' (q) := by
  unfold fX2_known at hf
  refine p_headT (own := RX2) (ini := false) (pn_X2 rfl) rfl (fun q => by cases q) (Nat.le_of_ble_eq_true rfl) (fun m Z cx sx H0 ls X XT hM hl => ?_)
  have G := X.g
  have hl : lv_has ls 3 [(0, .ref a0), (1, .ref a1)] := hl
  refine g_aload_n G dX2_known_0 rfl (lv_at hl 1 rfl) ?_
  refine g_aload_n G dX2_known_1 rfl (lv_at hl 0 rfl) ?_
  obtain ⟨b1, hf⟩ := ckc_open hf
  refine bnx_split hf (fun g2 => ?_) (fun p1 h1 g1 hf => ?_)
  · exact p_callT (ci := 2) (As := []) (rest := [.ref a1]) XT hM hl rfl b1 pcy_X2_name q734 q736 qs12 (xX2_name g2) rfl (Nat.le_of_ble_eq_true rfl) (Nat.le_of_ble_eq_true rfl) rfl dX2_known_2
  refine p_callV_r (ci := 2) (As := []) (rest := [.ref a1]) X hM hl rfl b1 pcy_X2_name q734 q736 qs12 (kX2_name g1) rfl (Nat.le_of_ble_eq_true rfl) (Nat.le_of_ble_eq_true rfl) rfl dX2_known_2 (fun H locs hM => ?_)
  obtain ⟨r1, h2, g3, hf⟩ := bnd_open hf
  refine p_callS_r (As := [.ref a1, .ref p1]) (rest := []) X hM hl pcy_X7_find q752 q753 (kX7_find g3) rfl (Nat.le_of_ble_eq_true rfl) (Nat.le_of_ble_eq_true rfl) rfl dX2_known_5 (fun H locs hM => ?_)
  refine g_istore_n (i := 2) (lv' := [(2, .int r1), (0, .ref a0), (1, .ref a1)]) G dX2_known_8 rfl hl (Nat.le_of_ble_eq_true rfl) rfl (fun ls hl => ?_)
  refine g_iload_n G dX2_known_9 rfl (lv_at hl 0 rfl) ?_
  refine g_iconst (v := (-1)) G dX2_known_10 rfl ?_
  refine g_icmp_ne (tgt := 24) G dX2_known_11 rfl (fun c1 => ?_) (fun c1 => ?_)
  · have hf := it_neg c1 hf
    refine g_iload_n G dX2_known_24 rfl (lv_at hl 0 rfl) ?_
    exact absurd hf (by intro z; cases z)
  · have hf := it_pos c1 hf
    refine g_aload_n G dX2_known_14 rfl (lv_at hl 1 rfl) ?_
    refine g_iconst (v := 3) G dX2_known_15 rfl ?_
    refine g_aload_n G dX2_known_16 rfl (lv_at hl 1 rfl) ?_
    obtain ⟨v1, g4, hf⟩ := vI_open hf
    refine p_get (k := 3) X hM pc_2 (by decide) q352 rfl g4 dX2_known_17 ?_
    obtain ⟨b2, hf⟩ := ckc_open hf
    obtain ⟨p2, h3, g5, hf⟩ := bnd_open hf
    refine p_callV_r (ci := 2) (As := [.int 3, .int v1]) (rest := []) X hM hl rfl b2 pcy_X2_wrong q555 q557 qs7 (kX2_wrong g5) rfl (Nat.le_of_ble_eq_true rfl) (Nat.le_of_ble_eq_true rfl) rfl dX2_known_20 (fun H locs hM => ?_)
    cases hf
    exact p_athrow XT hM dX2_known_23
theorem pcy_X2_most : pcY yX2_most cX2_most 3 none 2 := ⟨q554, q150, ⟨by decide +kernel, by decide +kernel, by decide +kernel⟩, Nat.le_of_ble_eq_true rfl⟩
noncomputable def fX2_most (a0 : Nat) (a1 : Bool) (a2 : Int32) (h : PH) : Option ((Unit ⊕ Nat) × PH) :=
  if (bI a1) = 0 then
    some (.inl (), h)
  else
    ckc (pCls h a0) 2 <|
    bnd (fX2_wrong a0 5 a2 h) fun p1 h1 =>
    some (.inr p1, h1)
set_option maxHeartbeats 1000000 in
theorem kX2_most {l : Launch} {D : PD} {A : Nat → Prop} {cap : Nat × Nat} {a0 : Nat} {a1 : Bool} {a2 : Int32} {h h' : PH} (hf : fX2_most a0 a1 a2 h = some (.inl (), h')) : CMet l D A cap yX2_most cX2_most 3 none 2 [.ref a0, .int (bI a1), .int a2] h h' (none) := by
  unfold fX2_most at hf
  refine p_head (own := RX2) (ini := false) (pn_X2 rfl) rfl (fun q => by cases q) (Nat.le_of_ble_eq_true rfl) (fun m Z cx sx H0 ls X hM hl => ?_)
  have G := X.g
  have hl : lv_has ls 3 [(0, .ref a0), (1, .int (bI a1)), (2, .int a2)] := hl
  refine g_iload_n G dX2_most_0 rfl (lv_at hl 1 rfl) ?_
  refine g_if_eq (tgt := 11) G dX2_most_1 rfl (fun c1 => ?_) (fun c1 => ?_)
  · have hf := it_pos c1 hf
    cases hf
    exact p_vret X hM rfl dX2_most_11
  · have hf := it_neg c1 hf
    refine g_aload_n G dX2_most_4 rfl (lv_at hl 0 rfl) ?_
    refine g_iconst (v := 5) G dX2_most_5 rfl ?_
    refine g_iload_n G dX2_most_6 rfl (lv_at hl 2 rfl) ?_
    obtain ⟨b1, hf⟩ := ckc_open hf
    obtain ⟨p1, h1, g1, hf⟩ := bnd_open hf
    refine p_callV_r (ci := 2) (As := [.int 5, .int a2]) (rest := []) X hM hl rfl b1 pcy_X2_wrong q555 q557 qs7 (kX2_wrong g1) rfl (Nat.le_of_ble_eq_true rfl) (Nat.le_of_ble_eq_true rfl) rfl dX2_most_7 (fun H locs hM => ?_)
    exact absurd hf (by intro z; cases z)
set_option maxHeartbeats 1000000 in
theorem xX2_most {l : Launch} {D : PD} {A : Nat → Prop} {cap : Nat × Nat} {a0 : Nat} {a1 : Bool} {a2 : Int32} {h h' : PH} {q : Nat} (hf : fX2_most a0 a1 a2 h = some (.inr q, h')) : XMet l D A cap yX2_most cX2_most 3 none 2 [.ref a0, .int (bI a1), .int a2] h h' (q) := by
  unfold fX2_most at hf
  refine p_headT (own := RX2) (ini := false) (pn_X2 rfl) rfl (fun q => by cases q) (Nat.le_of_ble_eq_true rfl) (fun m Z cx sx H0 ls X XT hM hl => ?_)
  have G := X.g
  have hl : lv_has ls 3 [(0, .ref a0), (1, .int (bI a1)), (2, .int a2)] := hl
  refine g_iload_n G dX2_most_0 rfl (lv_at hl 1 rfl) ?_
  refine g_if_eq (tgt := 11) G dX2_most_1 rfl (fun c1 => ?_) (fun c1 => ?_)
  · have hf := it_pos c1 hf
    exact absurd hf (by intro z; cases z)
  · have hf := it_neg c1 hf
    refine g_aload_n G dX2_most_4 rfl (lv_at hl 0 rfl) ?_
    refine g_iconst (v := 5) G dX2_most_5 rfl ?_
    refine g_iload_n G dX2_most_6 rfl (lv_at hl 2 rfl) ?_
    obtain ⟨b1, hf⟩ := ckc_open hf
    obtain ⟨p1, h1, g1, hf⟩ := bnd_open hf
    refine p_callV_r (ci := 2) (As := [.int 5, .int a2]) (rest := []) X hM hl rfl b1 pcy_X2_wrong q555 q557 qs7 (kX2_wrong g1) rfl (Nat.le_of_ble_eq_true rfl) (Nat.le_of_ble_eq_true rfl) rfl dX2_most_7 (fun H locs hM => ?_)
    cases hf
    exact p_athrow XT hM dX2_most_10
theorem pcy_X2_opens : pcY yX2_opens cX2_opens 2 none 1 := ⟨q972, q150, ⟨by decide +kernel, by decide +kernel, by decide +kernel⟩, Nat.le_of_ble_eq_true rfl⟩
noncomputable def fX2_opens (a0 : Nat) (a1 : Int32) (h : PH) : Option ((Unit ⊕ Nat) × PH) :=
  vI (pF h a0 2 4) fun v1 =>
  if v1 = (6 : Int32) then
    ckc (pCls h a0) 2 <|
    bnd (fX2_wrong a0 4 a1 h) fun p1 h2 =>
    some (.inr p1, h2)
  else
    vI (pF h a0 2 4) fun v2 =>
    bnv (pPut h a0 2 4 (.int (v2 + 1))) fun h1 =>
    some (.inl (), h1)
set_option maxHeartbeats 1000000 in
theorem kX2_opens {l : Launch} {D : PD} {A : Nat → Prop} {cap : Nat × Nat} {a0 : Nat} {a1 : Int32} {h h' : PH} (hf : fX2_opens a0 a1 h = some (.inl (), h')) : CMet l D A cap yX2_opens cX2_opens 2 none 2 [.ref a0, .int a1] h h' (none) := by
  unfold fX2_opens at hf
  refine p_head (own := RX2) (ini := false) (pn_X2 rfl) rfl (fun q => by cases q) (Nat.le_of_ble_eq_true rfl) (fun m Z cx sx H0 ls X hM hl => ?_)
  have G := X.g
  have hl : lv_has ls 2 [(0, .ref a0), (1, .int a1)] := hl
  refine g_aload_n G dX2_opens_0 rfl (lv_at hl 0 rfl) ?_
  obtain ⟨v1, g1, hf⟩ := vI_open hf
  refine p_get (k := 4) X hM pc_2 (by decide) q353 rfl g1 dX2_opens_1 ?_
  refine g_bipush (v := 6) G dX2_opens_4 rfl ?_
  refine g_icmp_ne (tgt := 16) G dX2_opens_6 rfl (fun c1 => ?_) (fun c1 => ?_)
  · have hf := it_neg c1 hf
    refine g_aload_n G dX2_opens_16 rfl (lv_at hl 0 rfl) ?_
    refine g_dup G dX2_opens_17 rfl ?_
    obtain ⟨v2, g2, hf⟩ := vI_open hf
    refine p_get (k := 4) X hM pc_2 (by decide) q353 rfl g2 dX2_opens_18 ?_
    refine g_iconst (v := 1) G dX2_opens_21 rfl ?_
    refine g_iadd G dX2_opens_22 ?_
    obtain ⟨h1, g3, hf⟩ := bnv_open hf
    refine p_put (k := 4) X hM pc_2 (by decide) q353 rfl rfl rfl rfl g3 dX2_opens_23 (fun H locs hM => ?_)
    cases hf
    exact p_vret X hM rfl dX2_opens_26
  · have hf := it_pos c1 hf
    refine g_aload_n G dX2_opens_9 rfl (lv_at hl 0 rfl) ?_
    refine g_iconst (v := 4) G dX2_opens_10 rfl ?_
    refine g_iload_n G dX2_opens_11 rfl (lv_at hl 1 rfl) ?_
    obtain ⟨b1, hf⟩ := ckc_open hf
    obtain ⟨p1, h2, g4, hf⟩ := bnd_open hf
    refine p_callV_r (ci := 2) (As := [.int 4, .int a1]) (rest := []) X hM hl rfl b1 pcy_X2_wrong q555 q557 qs7 (kX2_wrong g4) rfl (Nat.le_of_ble_eq_true rfl) (Nat.le_of_ble_eq_true rfl) rfl dX2_opens_12 (fun H locs hM => ?_)
    exact absurd hf (by intro z; cases z)
set_option maxHeartbeats 1000000 in
theorem xX2_opens {l : Launch} {D : PD} {A : Nat → Prop} {cap : Nat × Nat} {a0 : Nat} {a1 : Int32} {h h' : PH} {q : Nat} (hf : fX2_opens a0 a1 h = some (.inr q, h')) : XMet l D A cap yX2_opens cX2_opens 2 none 2 [.ref a0, .int a1] h h' (q) := by
  unfold fX2_opens at hf
  refine p_headT (own := RX2) (ini := false) (pn_X2 rfl) rfl (fun q => by cases q) (Nat.le_of_ble_eq_true rfl) (fun m Z cx sx H0 ls X XT hM hl => ?_)
  have G := X.g
  have hl : lv_has ls 2 [(0, .ref a0), (1, .int a1)] := hl
  refine g_aload_n G dX2_opens_0 rfl (lv_at hl 0 rfl) ?_
  obtain ⟨v1, g1, hf⟩ := vI_open hf
  refine p_get (k := 4) X hM pc_2 (by decide) q353 rfl g1 dX2_opens_1 ?_
  refine g_bipush (v := 6) G dX2_opens_4 rfl ?_
  refine g_icmp_ne (tgt := 16) G dX2_opens_6 rfl (fun c1 => ?_) (fun c1 => ?_)
  · have hf := it_neg c1 hf
    refine g_aload_n G dX2_opens_16 rfl (lv_at hl 0 rfl) ?_
    refine g_dup G dX2_opens_17 rfl ?_
    obtain ⟨v2, g2, hf⟩ := vI_open hf
    refine p_get (k := 4) X hM pc_2 (by decide) q353 rfl g2 dX2_opens_18 ?_
    refine g_iconst (v := 1) G dX2_opens_21 rfl ?_
    refine g_iadd G dX2_opens_22 ?_
    obtain ⟨h1, g3, hf⟩ := bnv_open hf
    refine p_put (k := 4) X hM pc_2 (by decide) q353 rfl rfl rfl rfl g3 dX2_opens_23 (fun H locs hM => ?_)
    exact absurd hf (by intro z; cases z)
  · have hf := it_pos c1 hf
    refine g_aload_n G dX2_opens_9 rfl (lv_at hl 0 rfl) ?_
    refine g_iconst (v := 4) G dX2_opens_10 rfl ?_
    refine g_iload_n G dX2_opens_11 rfl (lv_at hl 1 rfl) ?_
    obtain ⟨b1, hf⟩ := ckc_open hf
    obtain ⟨p1, h2, g4, hf⟩ := bnd_open hf
    refine p_callV_r (ci := 2) (As := [.int 4, .int a1]) (rest := []) X hM hl rfl b1 pcy_X2_wrong q555 q557 qs7 (kX2_wrong g4) rfl (Nat.le_of_ble_eq_true rfl) (Nat.le_of_ble_eq_true rfl) rfl dX2_opens_12 (fun H locs hM => ?_)
    cases hf
    exact p_athrow XT hM dX2_opens_15
theorem pcy_X2_people : pcY yX2_people cX2_people 11 (Option.some Jvm.ClassFile.FieldType.boolean) 2 := ⟨q654, q150, ⟨by decide +kernel, by decide +kernel, by decide +kernel⟩, Nat.le_of_ble_eq_true rfl⟩
noncomputable def fX2_people (D : PD) (cap : Nat × Nat) (a0 : Nat) (a1 : Nat) (a2 : Int32) (h : PH) : Option ((Bool ⊕ Nat) × PH) :=
  ckc (pCls h a1) 22 <|
  bnd (fJ6_hashCode D cap a1 h) fun r1 h1 =>
  jn (fun (x1 : Int32) (h2 : PH) =>
    if x1 = 0 then
      vA (pF h2 a0 2 6) fun p1 =>
      vA (pF h2 p1 1 4) fun p2 =>
      ckc (pCls h2 p2) 21 <|
      bnd (fJ2_size p2 h2) fun r2 h3 =>
      jn (fun (x2 : Bool) (h4 : PH) =>
        ckc (pCls h4 a0) 2 <|
        bnx (fX2_most a0 x2 a2 h4) fun u1 h5 =>
        ckc (pCls h5 a0) 2 <|
        bnx (fX2_fresh D cap a0 h5) fun p3 h6 =>
        vA (pF h6 a0 2 6) fun p4 =>
        vA (pF h6 p4 1 4) fun p5 =>
        bnd (pNew cap h6 (.inr (7, [.null, .int 0])) 2) fun p6 h7 =>
        ckc (pCls h7 a0) 2 <|
        bnx (fX2_number D cap a0 (dK D 5) 1 9 h7) fun r3 h8 =>
        bnv (fX7_init p6 p3 r3 h8) fun h9 =>
        ckc (pCls h9 p5) 21 <|
        bnd (fJ2_add D cap p5 (some p6) h9) fun r4 h10 =>
        some (.inl true, h10)) fun j191 =>
      if r2 = (8 : Int32) then
        j191 true h3
      else
        j191 false h3
    else
      if x1 = 1 then
        vA (pF h2 a0 2 6) fun p7 =>
        vA (pF h2 p7 1 5) fun p8 =>
        ckc (pCls h2 p8) 21 <|
        bnd (fJ2_size p8 h2) fun r5 h11 =>
        jn (fun (x3 : Bool) (h12 : PH) =>
          ckc (pCls h12 a0) 2 <|
          bnx (fX2_most a0 x3 a2 h12) fun u2 h13 =>
          ckc (pCls h13 a0) 2 <|
          bnx (fX2_fresh D cap a0 h13) fun p9 h14 =>
          vA (pF h14 a0 2 6) fun p10 =>
          vA (pF h14 p10 1 5) fun p11 =>
          bnd (pNew cap h14 (.inr (8, [.null, .int 0, .int 0, .int 0, .int 0])) 5) fun p12 h15 =>
          ckc (pCls h15 a0) 2 <|
          bnx (fX2_number D cap a0 (dK D 6) 0 99 h15) fun r6 h16 =>
          bnv (fX8_init p12 p9 r6 h16) fun h17 =>
          ckc (pCls h17 p11) 21 <|
          bnd (fJ2_add D cap p11 (some p12) h17) fun r7 h18 =>
          some (.inl true, h18)) fun j257 =>
        if r5 = (8 : Int32) then
          j257 true h11
        else
          j257 false h11
      else
        if x1 = 2 then
          vA (pF h2 a0 2 6) fun p13 =>
          vA (pF h2 p13 1 5) fun p14 =>
          vA (pF h2 a0 2 6) fun p15 =>
          vA (pF h2 p15 1 5) fun p16 =>
          ckc (pCls h2 a0) 2 <|
          bnx (fX2_known D cap a0 p16 h2) fun r8 h19 =>
          ckc (pCls h19 p14) 21 <|
          bnd (fJ2_get p14 r8 h19) fun q1 h20 =>
          qS q1 fun n1 =>
          ckc (pCls h20 n1) 8 <|
          vA (pF h20 a0 2 6) fun p17 =>
          vA (pF h20 p17 1 4) fun p18 =>
          ckc (pCls h20 a0) 2 <|
          bnx (fX2_known D cap a0 p18 h20) fun r9 h21 =>
          vI (pF h21 n1 8 3) fun v1 =>
          vI (pF h21 n1 8 4) fun v2 =>
          bnd (fX0_has (v1 ||| v2) r9 h21) fun r10 h22 =>
          if (bI r10) = 0 then
            ckc (pCls h22 a1) 22 <|
            bnd (fJ6_equals D a1 (some (dK D 2)) h22) fun r11 h23 =>
            if (bI r11) = 0 then
              vI (pF h23 n1 8 4) fun v3 =>
              bnv (pPut h23 n1 8 4 (.int (v3 ||| ((1 : Int32) <<< (r9 &&& 31))))) fun h24 =>
              some (.inl true, h24)
            else
              vI (pF h23 n1 8 3) fun v4 =>
              bnv (pPut h23 n1 8 3 (.int (v4 ||| ((1 : Int32) <<< (r9 &&& 31))))) fun h25 =>
              some (.inl true, h25)
          else
            vI (pF h22 a0 2 3) fun v5 =>
            ckc (pCls h22 a0) 2 <|
            bnd (fX2_wrong a0 3 v5 h22) fun p19 h26 =>
            some (.inr p19, h26)
        else
          if x1 = 3 then
            vA (pF h2 a0 2 6) fun p20 =>
            vA (pF h2 p20 1 5) fun p21 =>
            vA (pF h2 a0 2 6) fun p22 =>
            vA (pF h2 p22 1 5) fun p23 =>
            ckc (pCls h2 a0) 2 <|
            bnx (fX2_known D cap a0 p23 h2) fun r12 h27 =>
            ckc (pCls h27 p21) 21 <|
            bnd (fJ2_get p21 r12 h27) fun q2 h28 =>
            qS q2 fun n2 =>
            ckc (pCls h28 n2) 8 <|
            vA (pF h28 a0 2 6) fun p24 =>
            vA (pF h28 p24 1 4) fun p25 =>
            ckc (pCls h28 a0) 2 <|
            bnx (fX2_known D cap a0 p25 h28) fun r13 h29 =>
            vI (pF h29 n2 8 3) fun v6 =>
            vI (pF h29 n2 8 4) fun v7 =>
            bnd (fX0_has (v6 ||| v7) r13 h29) fun r14 h30 =>
            if (bI r14) = 0 then
              ckc (pCls h30 a1) 22 <|
              bnd (fJ6_equals D a1 (some (dK D 2)) h30) fun r15 h31 =>
              if (bI r15) = 0 then
                vI (pF h31 n2 8 4) fun v8 =>
                bnv (pPut h31 n2 8 4 (.int (v8 ||| ((1 : Int32) <<< (r13 &&& 31))))) fun h32 =>
                some (.inl true, h32)
              else
                vI (pF h31 n2 8 3) fun v9 =>
                bnv (pPut h31 n2 8 3 (.int (v9 ||| ((1 : Int32) <<< (r13 &&& 31))))) fun h33 =>
                some (.inl true, h33)
            else
              vI (pF h30 a0 2 3) fun v10 =>
              ckc (pCls h30 a0) 2 <|
              bnd (fX2_wrong a0 3 v10 h30) fun p26 h34 =>
              some (.inr p26, h34)
          else
            if x1 = 4 then
              vA (pF h2 a0 2 6) fun p27 =>
              vA (pF h2 p27 1 5) fun p28 =>
              ckc (pCls h2 a0) 2 <|
              bnx (fX2_known D cap a0 p28 h2) fun r16 h35 =>
              vA (pF h35 a0 2 6) fun p29 =>
              vA (pF h35 p29 1 5) fun p30 =>
              ckc (pCls h35 p30) 21 <|
              bnd (fJ2_get p30 r16 h35) fun q3 h36 =>
              qS q3 fun n3 =>
              ckc (pCls h36 n3) 8 <|
              vI (pF h36 n3 8 2) fun v11 =>
              if v11 = ((-1) : Int32) then
                ckc (pCls h36 a0) 2 <|
                bnx (fX2_word_2 D cap a0 (dK D 7) h36) fun u3 h37 =>
                vA (pF h37 a0 2 6) fun p31 =>
                vA (pF h37 p31 1 5) fun p32 =>
                ckc (pCls h37 a0) 2 <|
                bnx (fX2_known D cap a0 p32 h37) fun r17 h38 =>
                vA (pF h38 a0 2 6) fun p33 =>
                ckc (pCls h38 p33) 1 <|
                bnd (fX1_isBy p33 r17 r16 h38) fun r18 h39 =>
                if (bI r18) = 0 then
                  vA (pF h39 a0 2 6) fun p34 =>
                  vA (pF h39 p34 1 5) fun p35 =>
                  ckc (pCls h39 p35) 21 <|
                  bnd (fJ2_get p35 r16 h39) fun q4 h40 =>
                  qS q4 fun n4 =>
                  ckc (pCls h40 n4) 8 <|
                  bnv (pPut h40 n4 8 2 (.int r17)) fun h41 =>
                  some (.inl true, h41)
                else
                  vI (pF h39 a0 2 3) fun v12 =>
                  ckc (pCls h39 a0) 2 <|
                  bnd (fX2_wrong a0 3 v12 h39) fun p36 h42 =>
                  some (.inr p36, h42)
              else
                vI (pF h36 a0 2 3) fun v13 =>
                ckc (pCls h36 a0) 2 <|
                bnd (fX2_wrong a0 3 v13 h36) fun p37 h43 =>
                some (.inr p37, h43)
            else
              some (.inl false, h2)) fun j132 =>
  if r1 = (-991716523) then
    ckc (pCls h1 a1) 22 <|
    bnd (fJ6_equals D a1 (some (dK D 1)) h1) fun r19 h44 =>
    if (bI r19) = 0 then
      j132 (-1) h44
    else
      j132 1 h44
  else
    if r1 = (-880816373) then
      ckc (pCls h1 a1) 22 <|
      bnd (fJ6_equals D a1 (some (dK D 4)) h1) fun r20 h45 =>
      if (bI r20) = 0 then
        j132 (-1) h45
      else
        j132 4 h45
    else
      if r1 = 3122094 then
        ckc (pCls h1 a1) 22 <|
        bnd (fJ6_equals D a1 (some (dK D 3)) h1) fun r21 h46 =>
        if (bI r21) = 0 then
          j132 (-1) h46
        else
          j132 3 h46
      else
        if r1 = 3135084 then
          ckc (pCls h1 a1) 22 <|
          bnd (fJ6_equals D a1 (some (dK D 0)) h1) fun r22 h47 =>
          if (bI r22) = 0 then
            j132 (-1) h47
          else
            j132 0 h47
        else
          if r1 = 102204232 then
            ckc (pCls h1 a1) 22 <|
            bnd (fJ6_equals D a1 (some (dK D 2)) h1) fun r23 h48 =>
            if (bI r23) = 0 then
              j132 (-1) h48
            else
              j132 2 h48
          else
            j132 (-1) h1
set_option maxHeartbeats 1000000 in
theorem kX2_people {l : Launch} {D : PD} {A : Nat → Prop} {cap : Nat × Nat} {a0 : Nat} {a1 : Nat} {a2 : Int32} {h h' : PH} {r : Bool} (hf : fX2_people D cap a0 a1 a2 h = some (.inl r, h')) : CMet l D A cap yX2_people cX2_people 11 (Option.some Jvm.ClassFile.FieldType.boolean) 9 [.ref a0, .ref a1, .int a2] h h' (some (.int (bI r))) := by
  unfold fX2_people at hf
  refine p_head (own := RX2) (ini := false) (pn_X2 rfl) rfl (fun q => by cases q) (Nat.le_of_ble_eq_true rfl) (fun m Z cx sx H0 ls X hM hl => ?_)
  have G := X.g
  have hl : lv_has ls 11 [(0, .ref a0), (1, .ref a1), (2, .int a2)] := hl
  refine g_aload_n G dX2_people_0 rfl (lv_at hl 1 rfl) ?_
  refine g_astore_n (i := 3) (lv' := [(3, .ref a1), (0, .ref a0), (1, .ref a1), (2, .int a2)]) G dX2_people_1 rfl hl (Nat.le_of_ble_eq_true rfl) rfl (fun ls hl => ?_)
  refine g_iconst (v := (-1)) G dX2_people_2 rfl ?_
  refine g_istore (lv' := [(4, .int (-1)), (3, .ref a1), (0, .ref a0), (1, .ref a1), (2, .int a2)]) G dX2_people_3 hl (Nat.le_of_ble_eq_true rfl) rfl (fun ls hl => ?_)
  refine g_aload_n G dX2_people_5 rfl (lv_at hl 1 rfl) ?_
  obtain ⟨b1, hf⟩ := ckc_open hf
  obtain ⟨r1, h1, g1, hf⟩ := bnd_open hf
  refine p_callV_r (ci := 22) (As := []) (rest := []) X hM hl rfl b1 pcy_J6_hashCode q655 q656 q657 (kJ6_hashCode g1) rfl (Nat.le_of_ble_eq_true rfl) (Nat.le_of_ble_eq_true rfl) rfl dX2_people_6 (fun H locs hM => ?_)
  obtain ⟨j132, ej132, hf⟩ := jn_open hf
  have J132 : ∀ (x1 : Int32) (h2 : PH) (H : Heap) (locs : List Loc), j132 x1 h2 = some (.inl r, h') → PI D A cap H0 h2 H locs → ∀ ls : Array Slot, lv_has ls 11 [(0, .ref a0), (1, .ref a1), (2, .int a2), (4, .int x1)] → Z H locs (cx H) (sx H) (F0 m 132 ls []) := by
    intro x1 h2 H locs hf hM ls hl
    rw [ej132] at hf
    refine g_iload G dX2_people_132 (lv_at hl 3 rfl) ?_
    by_cases c1 : x1 = 0
    · have hf := it_pos c1 hf
      refine g_tableIn (off := 34) (tgt := 168) G dX2_people_134 (by rw [c1]; decide) (by rw [c1]; decide) (by rw [c1]; rfl) rfl ?_
      refine g_aload_n G dX2_people_168 rfl (lv_at hl 0 rfl) ?_
      refine g_aload_n G dX2_people_169 rfl (lv_at hl 0 rfl) ?_
      obtain ⟨p1, g2, hf⟩ := vA_open hf
      refine p_get (k := 6) X hM pc_2 (by decide) q355 rfl g2 dX2_people_170 ?_
      obtain ⟨p2, g3, hf⟩ := vA_open hf
      refine p_getN (k := 4) X hM pc_1 (by decide) q239 rfl g3 dX2_people_173 ?_
      obtain ⟨b2, hf⟩ := ckc_open hf
      obtain ⟨r2, h3, g4, hf⟩ := bnd_open hf
      refine p_callF_r (As := []) (rest := [.ref a0]) X hM hl b2 pcy_J2_size (fun U hK => hK.1.2.2.1.1) ⟨by decide +kernel, by decide +kernel, by decide +kernel⟩ q721 q727 q725 (kJ2_size g4) rfl (Nat.le_of_ble_eq_true rfl) (Nat.le_of_ble_eq_true rfl) rfl dX2_people_176 (fun H locs hM => ?_)
      refine g_bipush (v := 8) G dX2_people_181 rfl ?_
      obtain ⟨j191, ej191, hf⟩ := jn_open hf
      have J191 : ∀ (x2 : Bool) (h4 : PH) (H : Heap) (locs : List Loc), j191 x2 h4 = some (.inl r, h') → PI D A cap H0 h4 H locs → ∀ ls : Array Slot, lv_has ls 11 [(0, .ref a0), (2, .int a2)] → Z H locs (cx H) (sx H) (F0 m 191 ls [.int (bI x2), .ref a0]) := by
        intro x2 h4 H locs hf hM ls hl
        rw [ej191] at hf
        refine g_iload_n G dX2_people_191 rfl (lv_at hl 1 rfl) ?_
        obtain ⟨b3, hf⟩ := ckc_open hf
        obtain ⟨u1, h5, g5, hf⟩ := bnx_ret hf
        refine p_callV_v (ci := 2) (As := [.int (bI x2), .int a2]) (rest := []) X hM hl rfl b3 pcy_X2_most q551 q553 qs6 (kX2_most g5) rfl (Nat.le_of_ble_eq_true rfl) (Nat.le_of_ble_eq_true rfl) rfl dX2_people_192 (fun H locs hM => ?_)
        refine g_aload_n G dX2_people_195 rfl (lv_at hl 0 rfl) ?_
        obtain ⟨b4, hf⟩ := ckc_open hf
        obtain ⟨p3, h6, g7, hf⟩ := bnx_ret hf
        refine p_callV_r (ci := 2) (As := []) (rest := []) X hM hl rfl b4 pcy_X2_fresh q730 q732 qs11 (kX2_fresh g7) rfl (Nat.le_of_ble_eq_true rfl) (Nat.le_of_ble_eq_true rfl) rfl dX2_people_196 (fun H locs hM => ?_)
        refine g_astore (lv' := [(5, .ref p3), (0, .ref a0), (2, .int a2)]) G dX2_people_199 hl (Nat.le_of_ble_eq_true rfl) rfl (fun ls hl => ?_)
        refine g_aload_n G dX2_people_201 rfl (lv_at hl 1 rfl) ?_
        obtain ⟨p4, g9, hf⟩ := vA_open hf
        refine p_get (k := 6) X hM pc_2 (by decide) q355 rfl g9 dX2_people_202 ?_
        obtain ⟨p5, g10, hf⟩ := vA_open hf
        refine p_getN (k := 4) X hM pc_1 (by decide) q239 rfl g10 dX2_people_205 ?_
        obtain ⟨p6, h7, g11, hf⟩ := bnd_open hf
        refine p_new X hM pc_7 q778 q779 q163 (by decide +kernel) g11 dX2_people_208 (fun H locs hM => ?_)
        refine g_dup G dX2_people_211 rfl ?_
        refine g_aload G dX2_people_212 (lv_at hl 0 rfl) ?_
        refine g_aload_n G dX2_people_214 rfl (lv_at hl 1 rfl) ?_
        refine p_ldcs X (i := 5) rfl dX2_people_215 ?_
        refine g_iconst (v := 1) G dX2_people_217 rfl ?_
        refine g_bipush (v := 9) G dX2_people_218 rfl ?_
        obtain ⟨b5, hf⟩ := ckc_open hf
        obtain ⟨r3, h8, g12, hf⟩ := bnx_ret hf
        refine p_callV_r (ci := 2) (As := [.ref (dK D 5), .int 1, .int 9]) (rest := [.ref p3, .ref p6, .ref p6, .ref p5]) X hM hl rfl b5 pcy_X2_number q781 q783 qs13 (kX2_number g12) rfl (Nat.le_of_ble_eq_true rfl) (Nat.le_of_ble_eq_true rfl) rfl dX2_people_220 (fun H locs hM => ?_)
        obtain ⟨h9, g14, hf⟩ := bnv_open hf
        refine p_callI_v (As := [.ref p3, .int r3]) (rest := [.ref p6, .ref p5]) X hM hl pcy_X7_init rfl q796 q797 (kX7_init g14) rfl (Nat.le_of_ble_eq_true rfl) (Nat.le_of_ble_eq_true rfl) rfl dX2_people_223 (fun H locs hM => ?_)
        obtain ⟨b6, hf⟩ := ckc_open hf
        obtain ⟨r4, h10, g15, hf⟩ := bnd_open hf
        refine p_callF_r (As := [va_rf (some p6)]) (rest := []) X hM hl b6 pcy_J2_add (fun U hK => hK.1.2.2.1.2.2) ⟨by decide +kernel, by decide +kernel, by decide +kernel⟩ q809 q814 q812 (kJ2_add g15) rfl (Nat.le_of_ble_eq_true rfl) (Nat.le_of_ble_eq_true rfl) rfl dX2_people_226 (fun H locs hM => ?_)
        refine g_pop G dX2_people_231 rfl ?_
        refine g_iconst (v := 1) G dX2_people_232 rfl ?_
        cases hf
        exact p_zret X hM rfl dX2_people_233
      refine g_icmp_ne (tgt := 190) G dX2_people_183 rfl (fun c2 => ?_) (fun c2 => ?_)
      · have hf := it_neg c2 hf
        refine g_iconst (v := 0) G dX2_people_190 rfl ?_
        exact J191 _ _ _ _ hf hM ls (lv_sub hl [0, 2] rfl)
      · have hf := it_pos c2 hf
        refine g_iconst (v := 1) G dX2_people_186 rfl ?_
        refine g_goto (tgt := 191) G dX2_people_187 rfl ?_
        exact J191 _ _ _ _ hf hM ls (lv_sub hl [0, 2] rfl)
    have hf := it_neg c1 hf
    by_cases c3 : x1 = 1
    · have hf := it_pos c3 hf
      refine g_tableIn (off := 100) (tgt := 234) G dX2_people_134 (by rw [c3]; decide) (by rw [c3]; decide) (by rw [c3]; rfl) rfl ?_
      refine g_aload_n G dX2_people_234 rfl (lv_at hl 0 rfl) ?_
      refine g_aload_n G dX2_people_235 rfl (lv_at hl 0 rfl) ?_
      obtain ⟨p7, g16, hf⟩ := vA_open hf
      refine p_get (k := 6) X hM pc_2 (by decide) q355 rfl g16 dX2_people_236 ?_
      obtain ⟨p8, g17, hf⟩ := vA_open hf
      refine p_getN (k := 5) X hM pc_1 (by decide) q243 rfl g17 dX2_people_239 ?_
      obtain ⟨b7, hf⟩ := ckc_open hf
      obtain ⟨r5, h11, g18, hf⟩ := bnd_open hf
      refine p_callF_r (As := []) (rest := [.ref a0]) X hM hl b7 pcy_J2_size (fun U hK => hK.1.2.2.1.1) ⟨by decide +kernel, by decide +kernel, by decide +kernel⟩ q721 q727 q725 (kJ2_size g18) rfl (Nat.le_of_ble_eq_true rfl) (Nat.le_of_ble_eq_true rfl) rfl dX2_people_242 (fun H locs hM => ?_)
      refine g_bipush (v := 8) G dX2_people_247 rfl ?_
      obtain ⟨j257, ej257, hf⟩ := jn_open hf
      have J257 : ∀ (x3 : Bool) (h12 : PH) (H : Heap) (locs : List Loc), j257 x3 h12 = some (.inl r, h') → PI D A cap H0 h12 H locs → ∀ ls : Array Slot, lv_has ls 11 [(0, .ref a0), (2, .int a2)] → Z H locs (cx H) (sx H) (F0 m 257 ls [.int (bI x3), .ref a0]) := by
        intro x3 h12 H locs hf hM ls hl
        rw [ej257] at hf
        refine g_iload_n G dX2_people_257 rfl (lv_at hl 1 rfl) ?_
        obtain ⟨b8, hf⟩ := ckc_open hf
        obtain ⟨u2, h13, g19, hf⟩ := bnx_ret hf
        refine p_callV_v (ci := 2) (As := [.int (bI x3), .int a2]) (rest := []) X hM hl rfl b8 pcy_X2_most q551 q553 qs6 (kX2_most g19) rfl (Nat.le_of_ble_eq_true rfl) (Nat.le_of_ble_eq_true rfl) rfl dX2_people_258 (fun H locs hM => ?_)
        refine g_aload_n G dX2_people_261 rfl (lv_at hl 0 rfl) ?_
        obtain ⟨b9, hf⟩ := ckc_open hf
        obtain ⟨p9, h14, g21, hf⟩ := bnx_ret hf
        refine p_callV_r (ci := 2) (As := []) (rest := []) X hM hl rfl b9 pcy_X2_fresh q730 q732 qs11 (kX2_fresh g21) rfl (Nat.le_of_ble_eq_true rfl) (Nat.le_of_ble_eq_true rfl) rfl dX2_people_262 (fun H locs hM => ?_)
        refine g_astore (lv' := [(6, .ref p9), (0, .ref a0), (2, .int a2)]) G dX2_people_265 hl (Nat.le_of_ble_eq_true rfl) rfl (fun ls hl => ?_)
        refine g_aload_n G dX2_people_267 rfl (lv_at hl 1 rfl) ?_
        obtain ⟨p10, g23, hf⟩ := vA_open hf
        refine p_get (k := 6) X hM pc_2 (by decide) q355 rfl g23 dX2_people_268 ?_
        obtain ⟨p11, g24, hf⟩ := vA_open hf
        refine p_getN (k := 5) X hM pc_1 (by decide) q243 rfl g24 dX2_people_271 ?_
        obtain ⟨p12, h15, g25, hf⟩ := bnd_open hf
        refine p_new X hM pc_8 q883 q884 q168 (by decide +kernel) g25 dX2_people_274 (fun H locs hM => ?_)
        refine g_dup G dX2_people_277 rfl ?_
        refine g_aload G dX2_people_278 (lv_at hl 0 rfl) ?_
        refine g_aload_n G dX2_people_280 rfl (lv_at hl 1 rfl) ?_
        refine p_ldcs X (i := 6) rfl dX2_people_281 ?_
        refine g_iconst (v := 0) G dX2_people_283 rfl ?_
        refine g_bipush (v := 99) G dX2_people_284 rfl ?_
        obtain ⟨b10, hf⟩ := ckc_open hf
        obtain ⟨r6, h16, g26, hf⟩ := bnx_ret hf
        refine p_callV_r (ci := 2) (As := [.ref (dK D 6), .int 0, .int 99]) (rest := [.ref p9, .ref p12, .ref p12, .ref p11]) X hM hl rfl b10 pcy_X2_number q781 q783 qs13 (kX2_number g26) rfl (Nat.le_of_ble_eq_true rfl) (Nat.le_of_ble_eq_true rfl) rfl dX2_people_286 (fun H locs hM => ?_)
        obtain ⟨h17, g28, hf⟩ := bnv_open hf
        refine p_callI_v (As := [.ref p9, .int r6]) (rest := [.ref p12, .ref p11]) X hM hl pcy_X8_init rfl q886 q887 (kX8_init g28) rfl (Nat.le_of_ble_eq_true rfl) (Nat.le_of_ble_eq_true rfl) rfl dX2_people_289 (fun H locs hM => ?_)
        obtain ⟨b11, hf⟩ := ckc_open hf
        obtain ⟨r7, h18, g29, hf⟩ := bnd_open hf
        refine p_callF_r (As := [va_rf (some p12)]) (rest := []) X hM hl b11 pcy_J2_add (fun U hK => hK.1.2.2.1.2.2) ⟨by decide +kernel, by decide +kernel, by decide +kernel⟩ q809 q814 q812 (kJ2_add g29) rfl (Nat.le_of_ble_eq_true rfl) (Nat.le_of_ble_eq_true rfl) rfl dX2_people_292 (fun H locs hM => ?_)
        refine g_pop G dX2_people_297 rfl ?_
        refine g_iconst (v := 1) G dX2_people_298 rfl ?_
        cases hf
        exact p_zret X hM rfl dX2_people_299
      refine g_icmp_ne (tgt := 256) G dX2_people_249 rfl (fun c4 => ?_) (fun c4 => ?_)
      · have hf := it_neg c4 hf
        refine g_iconst (v := 0) G dX2_people_256 rfl ?_
        exact J257 _ _ _ _ hf hM ls (lv_sub hl [0, 2] rfl)
      · have hf := it_pos c4 hf
        refine g_iconst (v := 1) G dX2_people_252 rfl ?_
        refine g_goto (tgt := 257) G dX2_people_253 rfl ?_
        exact J257 _ _ _ _ hf hM ls (lv_sub hl [0, 2] rfl)
    have hf := it_neg c3 hf
    by_cases c5 : x1 = 2
    · have hf := it_pos c5 hf
      refine g_tableIn (off := 166) (tgt := 300) G dX2_people_134 (by rw [c5]; decide) (by rw [c5]; decide) (by rw [c5]; rfl) rfl ?_
      refine g_aload_n G dX2_people_300 rfl (lv_at hl 0 rfl) ?_
      obtain ⟨p13, g30, hf⟩ := vA_open hf
      refine p_get (k := 6) X hM pc_2 (by decide) q355 rfl g30 dX2_people_301 ?_
      obtain ⟨p14, g31, hf⟩ := vA_open hf
      refine p_getN (k := 5) X hM pc_1 (by decide) q243 rfl g31 dX2_people_304 ?_
      refine g_aload_n G dX2_people_307 rfl (lv_at hl 0 rfl) ?_
      refine g_aload_n G dX2_people_308 rfl (lv_at hl 0 rfl) ?_
      obtain ⟨p15, g32, hf⟩ := vA_open hf
      refine p_get (k := 6) X hM pc_2 (by decide) q355 rfl g32 dX2_people_309 ?_
      obtain ⟨p16, g33, hf⟩ := vA_open hf
      refine p_getN (k := 5) X hM pc_1 (by decide) q243 rfl g33 dX2_people_312 ?_
      obtain ⟨b12, hf⟩ := ckc_open hf
      obtain ⟨r8, h19, g34, hf⟩ := bnx_ret hf
      refine p_callV_r (ci := 2) (As := [.ref p16]) (rest := [.ref p14]) X hM hl rfl b12 pcy_X2_known q907 q909 qs19 (kX2_known g34) rfl (Nat.le_of_ble_eq_true rfl) (Nat.le_of_ble_eq_true rfl) rfl dX2_people_315 (fun H locs hM => ?_)
      obtain ⟨b13, hf⟩ := ckc_open hf
      obtain ⟨q1, h20, g36, hf⟩ := bnd_open hf
      refine p_callF_r (As := [.int r8]) (rest := []) X hM hl b13 pcy_J2_get (fun U hK => hK.1.2.2.1.2.1) ⟨by decide +kernel, by decide +kernel, by decide +kernel⟩ q912 q763 q761 (kJ2_get g36) rfl (Nat.le_of_ble_eq_true rfl) (Nat.le_of_ble_eq_true rfl) rfl dX2_people_318 (fun H locs hM => ?_)
      obtain ⟨n1, e1, hfq⟩ := qS_open hf
      clear hf; subst e1; have hf := hfq; clear hfq
      obtain ⟨b15, hf⟩ := ckc_open hf
      refine p_castS X hM (ci := 8) rfl q883 b15 dX2_people_323 ?_
      refine g_astore (lv' := [(7, .ref n1), (0, .ref a0), (1, .ref a1), (2, .int a2), (4, .int x1)]) G dX2_people_326 hl (Nat.le_of_ble_eq_true rfl) rfl (fun ls hl => ?_)
      refine g_aload_n G dX2_people_328 rfl (lv_at hl 1 rfl) ?_
      refine g_aload_n G dX2_people_329 rfl (lv_at hl 1 rfl) ?_
      obtain ⟨p17, g37, hf⟩ := vA_open hf
      refine p_get (k := 6) X hM pc_2 (by decide) q355 rfl g37 dX2_people_330 ?_
      obtain ⟨p18, g38, hf⟩ := vA_open hf
      refine p_getN (k := 4) X hM pc_1 (by decide) q239 rfl g38 dX2_people_333 ?_
      obtain ⟨b16, hf⟩ := ckc_open hf
      obtain ⟨r9, h21, g39, hf⟩ := bnx_ret hf
      refine p_callV_r (ci := 2) (As := [.ref p18]) (rest := []) X hM hl rfl b16 pcy_X2_known q907 q909 qs19 (kX2_known g39) rfl (Nat.le_of_ble_eq_true rfl) (Nat.le_of_ble_eq_true rfl) rfl dX2_people_336 (fun H locs hM => ?_)
      refine g_istore (lv' := [(8, .int r9), (7, .ref n1), (0, .ref a0), (1, .ref a1), (2, .int a2), (4, .int x1)]) G dX2_people_339 hl (Nat.le_of_ble_eq_true rfl) rfl (fun ls hl => ?_)
      refine g_aload G dX2_people_341 (lv_at hl 1 rfl) ?_
      obtain ⟨v1, g41, hf⟩ := vI_open hf
      refine p_getN (k := 3) X hM pc_8 (by decide) q895 rfl g41 dX2_people_343 ?_
      refine g_aload G dX2_people_346 (lv_at hl 1 rfl) ?_
      obtain ⟨v2, g42, hf⟩ := vI_open hf
      refine p_getN (k := 4) X hM pc_8 (by decide) q897 rfl g42 dX2_people_348 ?_
      refine g_ior G dX2_people_351 ?_
      refine g_iload G dX2_people_352 (lv_at hl 0 rfl) ?_
      obtain ⟨r10, h22, g43, hf⟩ := bnd_open hf
      refine p_callSN_r (As := [.int (v1 ||| v2), .int r9]) (rest := []) X hM hl pcy_X0_has q913 q914 (kX0_has g43) rfl (Nat.le_of_ble_eq_true rfl) (Nat.le_of_ble_eq_true rfl) rfl dX2_people_354 (fun H locs hM => ?_)
      refine g_if_eq (tgt := 370) G dX2_people_357 rfl (fun c6 => ?_) (fun c6 => ?_)
      · have hf := it_pos c6 hf
        refine g_aload_n G dX2_people_370 rfl (lv_at hl 3 rfl) ?_
        refine p_ldcs X (i := 2) rfl dX2_people_371 ?_
        obtain ⟨b17, hf⟩ := ckc_open hf
        obtain ⟨r11, h23, g44, hf⟩ := bnd_open hf
        refine p_callV_r (ci := 22) (As := [va_rf (some (dK D 2))]) (rest := []) X hM hl rfl b17 pcy_J6_equals q709 q710 q711 (kJ6_equals g44) rfl (Nat.le_of_ble_eq_true rfl) (Nat.le_of_ble_eq_true rfl) rfl dX2_people_373 (fun H locs hM => ?_)
        refine g_if_eq (tgt := 396) G dX2_people_376 rfl (fun c7 => ?_) (fun c7 => ?_)
        · have hf := it_pos c7 hf
          refine g_aload G dX2_people_396 (lv_at hl 1 rfl) ?_
          refine g_dup G dX2_people_398 rfl ?_
          obtain ⟨v3, g45, hf⟩ := vI_open hf
          refine p_getN (k := 4) X hM pc_8 (by decide) q897 rfl g45 dX2_people_399 ?_
          refine g_iconst (v := 1) G dX2_people_402 rfl ?_
          refine g_iload G dX2_people_403 (lv_at hl 0 rfl) ?_
          refine g_ishl G dX2_people_405 ?_
          refine g_ior G dX2_people_406 ?_
          obtain ⟨h24, g46, hf⟩ := bnv_open hf
          refine p_putN (k := 4) X hM pc_8 (by decide) q897 rfl rfl rfl rfl g46 dX2_people_407 (fun H locs hM => ?_)
          refine g_iconst (v := 1) G dX2_people_410 rfl ?_
          cases hf
          exact p_zret X hM rfl dX2_people_411
        · have hf := it_neg c7 hf
          refine g_aload G dX2_people_379 (lv_at hl 1 rfl) ?_
          refine g_dup G dX2_people_381 rfl ?_
          obtain ⟨v4, g47, hf⟩ := vI_open hf
          refine p_getN (k := 3) X hM pc_8 (by decide) q895 rfl g47 dX2_people_382 ?_
          refine g_iconst (v := 1) G dX2_people_385 rfl ?_
          refine g_iload G dX2_people_386 (lv_at hl 0 rfl) ?_
          refine g_ishl G dX2_people_388 ?_
          refine g_ior G dX2_people_389 ?_
          obtain ⟨h25, g48, hf⟩ := bnv_open hf
          refine p_putN (k := 3) X hM pc_8 (by decide) q895 rfl rfl rfl rfl g48 dX2_people_390 (fun H locs hM => ?_)
          refine g_goto (tgt := 410) G dX2_people_393 rfl ?_
          refine g_iconst (v := 1) G dX2_people_410 rfl ?_
          cases hf
          exact p_zret X hM rfl dX2_people_411
      · have hf := it_neg c6 hf
        refine g_aload_n G dX2_people_360 rfl (lv_at hl 2 rfl) ?_
        refine g_iconst (v := 3) G dX2_people_361 rfl ?_
        refine g_aload_n G dX2_people_362 rfl (lv_at hl 2 rfl) ?_
        obtain ⟨v5, g49, hf⟩ := vI_open hf
        refine p_get (k := 3) X hM pc_2 (by decide) q352 rfl g49 dX2_people_363 ?_
        obtain ⟨b18, hf⟩ := ckc_open hf
        obtain ⟨p19, h26, g50, hf⟩ := bnd_open hf
        refine p_callV_r (ci := 2) (As := [.int 3, .int v5]) (rest := []) X hM hl rfl b18 pcy_X2_wrong q555 q557 qs7 (kX2_wrong g50) rfl (Nat.le_of_ble_eq_true rfl) (Nat.le_of_ble_eq_true rfl) rfl dX2_people_366 (fun H locs hM => ?_)
        exact absurd hf (by intro z; cases z)
    have hf := it_neg c5 hf
    by_cases c8 : x1 = 3
    · have hf := it_pos c8 hf
      refine g_tableIn (off := 166) (tgt := 300) G dX2_people_134 (by rw [c8]; decide) (by rw [c8]; decide) (by rw [c8]; rfl) rfl ?_
      refine g_aload_n G dX2_people_300 rfl (lv_at hl 0 rfl) ?_
      obtain ⟨p20, g51, hf⟩ := vA_open hf
      refine p_get (k := 6) X hM pc_2 (by decide) q355 rfl g51 dX2_people_301 ?_
      obtain ⟨p21, g52, hf⟩ := vA_open hf
      refine p_getN (k := 5) X hM pc_1 (by decide) q243 rfl g52 dX2_people_304 ?_
      refine g_aload_n G dX2_people_307 rfl (lv_at hl 0 rfl) ?_
      refine g_aload_n G dX2_people_308 rfl (lv_at hl 0 rfl) ?_
      obtain ⟨p22, g53, hf⟩ := vA_open hf
      refine p_get (k := 6) X hM pc_2 (by decide) q355 rfl g53 dX2_people_309 ?_
      obtain ⟨p23, g54, hf⟩ := vA_open hf
      refine p_getN (k := 5) X hM pc_1 (by decide) q243 rfl g54 dX2_people_312 ?_
      obtain ⟨b19, hf⟩ := ckc_open hf
      obtain ⟨r12, h27, g55, hf⟩ := bnx_ret hf
      refine p_callV_r (ci := 2) (As := [.ref p23]) (rest := [.ref p21]) X hM hl rfl b19 pcy_X2_known q907 q909 qs19 (kX2_known g55) rfl (Nat.le_of_ble_eq_true rfl) (Nat.le_of_ble_eq_true rfl) rfl dX2_people_315 (fun H locs hM => ?_)
      obtain ⟨b20, hf⟩ := ckc_open hf
      obtain ⟨q2, h28, g57, hf⟩ := bnd_open hf
      refine p_callF_r (As := [.int r12]) (rest := []) X hM hl b20 pcy_J2_get (fun U hK => hK.1.2.2.1.2.1) ⟨by decide +kernel, by decide +kernel, by decide +kernel⟩ q912 q763 q761 (kJ2_get g57) rfl (Nat.le_of_ble_eq_true rfl) (Nat.le_of_ble_eq_true rfl) rfl dX2_people_318 (fun H locs hM => ?_)
      obtain ⟨n2, e2, hfq⟩ := qS_open hf
      clear hf; subst e2; have hf := hfq; clear hfq
      obtain ⟨b22, hf⟩ := ckc_open hf
      refine p_castS X hM (ci := 8) rfl q883 b22 dX2_people_323 ?_
      refine g_astore (lv' := [(7, .ref n2), (0, .ref a0), (1, .ref a1), (2, .int a2), (4, .int x1)]) G dX2_people_326 hl (Nat.le_of_ble_eq_true rfl) rfl (fun ls hl => ?_)
      refine g_aload_n G dX2_people_328 rfl (lv_at hl 1 rfl) ?_
      refine g_aload_n G dX2_people_329 rfl (lv_at hl 1 rfl) ?_
      obtain ⟨p24, g58, hf⟩ := vA_open hf
      refine p_get (k := 6) X hM pc_2 (by decide) q355 rfl g58 dX2_people_330 ?_
      obtain ⟨p25, g59, hf⟩ := vA_open hf
      refine p_getN (k := 4) X hM pc_1 (by decide) q239 rfl g59 dX2_people_333 ?_
      obtain ⟨b23, hf⟩ := ckc_open hf
      obtain ⟨r13, h29, g60, hf⟩ := bnx_ret hf
      refine p_callV_r (ci := 2) (As := [.ref p25]) (rest := []) X hM hl rfl b23 pcy_X2_known q907 q909 qs19 (kX2_known g60) rfl (Nat.le_of_ble_eq_true rfl) (Nat.le_of_ble_eq_true rfl) rfl dX2_people_336 (fun H locs hM => ?_)
      refine g_istore (lv' := [(8, .int r13), (7, .ref n2), (0, .ref a0), (1, .ref a1), (2, .int a2), (4, .int x1)]) G dX2_people_339 hl (Nat.le_of_ble_eq_true rfl) rfl (fun ls hl => ?_)
      refine g_aload G dX2_people_341 (lv_at hl 1 rfl) ?_
      obtain ⟨v6, g62, hf⟩ := vI_open hf
      refine p_getN (k := 3) X hM pc_8 (by decide) q895 rfl g62 dX2_people_343 ?_
      refine g_aload G dX2_people_346 (lv_at hl 1 rfl) ?_
      obtain ⟨v7, g63, hf⟩ := vI_open hf
      refine p_getN (k := 4) X hM pc_8 (by decide) q897 rfl g63 dX2_people_348 ?_
      refine g_ior G dX2_people_351 ?_
      refine g_iload G dX2_people_352 (lv_at hl 0 rfl) ?_
      obtain ⟨r14, h30, g64, hf⟩ := bnd_open hf
      refine p_callSN_r (As := [.int (v6 ||| v7), .int r13]) (rest := []) X hM hl pcy_X0_has q913 q914 (kX0_has g64) rfl (Nat.le_of_ble_eq_true rfl) (Nat.le_of_ble_eq_true rfl) rfl dX2_people_354 (fun H locs hM => ?_)
      refine g_if_eq (tgt := 370) G dX2_people_357 rfl (fun c9 => ?_) (fun c9 => ?_)
      · have hf := it_pos c9 hf
        refine g_aload_n G dX2_people_370 rfl (lv_at hl 3 rfl) ?_
        refine p_ldcs X (i := 2) rfl dX2_people_371 ?_
        obtain ⟨b24, hf⟩ := ckc_open hf
        obtain ⟨r15, h31, g65, hf⟩ := bnd_open hf
        refine p_callV_r (ci := 22) (As := [va_rf (some (dK D 2))]) (rest := []) X hM hl rfl b24 pcy_J6_equals q709 q710 q711 (kJ6_equals g65) rfl (Nat.le_of_ble_eq_true rfl) (Nat.le_of_ble_eq_true rfl) rfl dX2_people_373 (fun H locs hM => ?_)
        refine g_if_eq (tgt := 396) G dX2_people_376 rfl (fun c10 => ?_) (fun c10 => ?_)
        · have hf := it_pos c10 hf
          refine g_aload G dX2_people_396 (lv_at hl 1 rfl) ?_
          refine g_dup G dX2_people_398 rfl ?_
          obtain ⟨v8, g66, hf⟩ := vI_open hf
          refine p_getN (k := 4) X hM pc_8 (by decide) q897 rfl g66 dX2_people_399 ?_
          refine g_iconst (v := 1) G dX2_people_402 rfl ?_
          refine g_iload G dX2_people_403 (lv_at hl 0 rfl) ?_
          refine g_ishl G dX2_people_405 ?_
          refine g_ior G dX2_people_406 ?_
          obtain ⟨h32, g67, hf⟩ := bnv_open hf
          refine p_putN (k := 4) X hM pc_8 (by decide) q897 rfl rfl rfl rfl g67 dX2_people_407 (fun H locs hM => ?_)
          refine g_iconst (v := 1) G dX2_people_410 rfl ?_
          cases hf
          exact p_zret X hM rfl dX2_people_411
        · have hf := it_neg c10 hf
          refine g_aload G dX2_people_379 (lv_at hl 1 rfl) ?_
          refine g_dup G dX2_people_381 rfl ?_
          obtain ⟨v9, g68, hf⟩ := vI_open hf
          refine p_getN (k := 3) X hM pc_8 (by decide) q895 rfl g68 dX2_people_382 ?_
          refine g_iconst (v := 1) G dX2_people_385 rfl ?_
          refine g_iload G dX2_people_386 (lv_at hl 0 rfl) ?_
          refine g_ishl G dX2_people_388 ?_
          refine g_ior G dX2_people_389 ?_
          obtain ⟨h33, g69, hf⟩ := bnv_open hf
          refine p_putN (k := 3) X hM pc_8 (by decide) q895 rfl rfl rfl rfl g69 dX2_people_390 (fun H locs hM => ?_)
          refine g_goto (tgt := 410) G dX2_people_393 rfl ?_
          refine g_iconst (v := 1) G dX2_people_410 rfl ?_
          cases hf
          exact p_zret X hM rfl dX2_people_411
      · have hf := it_neg c9 hf
        refine g_aload_n G dX2_people_360 rfl (lv_at hl 2 rfl) ?_
        refine g_iconst (v := 3) G dX2_people_361 rfl ?_
        refine g_aload_n G dX2_people_362 rfl (lv_at hl 2 rfl) ?_
        obtain ⟨v10, g70, hf⟩ := vI_open hf
        refine p_get (k := 3) X hM pc_2 (by decide) q352 rfl g70 dX2_people_363 ?_
        obtain ⟨b25, hf⟩ := ckc_open hf
        obtain ⟨p26, h34, g71, hf⟩ := bnd_open hf
        refine p_callV_r (ci := 2) (As := [.int 3, .int v10]) (rest := []) X hM hl rfl b25 pcy_X2_wrong q555 q557 qs7 (kX2_wrong g71) rfl (Nat.le_of_ble_eq_true rfl) (Nat.le_of_ble_eq_true rfl) rfl dX2_people_366 (fun H locs hM => ?_)
        exact absurd hf (by intro z; cases z)
    have hf := it_neg c8 hf
    by_cases c11 : x1 = 4
    · have hf := it_pos c11 hf
      refine g_tableIn (off := 278) (tgt := 412) G dX2_people_134 (by rw [c11]; decide) (by rw [c11]; decide) (by rw [c11]; rfl) rfl ?_
      refine g_aload_n G dX2_people_412 rfl (lv_at hl 0 rfl) ?_
      refine g_aload_n G dX2_people_413 rfl (lv_at hl 0 rfl) ?_
      obtain ⟨p27, g72, hf⟩ := vA_open hf
      refine p_get (k := 6) X hM pc_2 (by decide) q355 rfl g72 dX2_people_414 ?_
      obtain ⟨p28, g73, hf⟩ := vA_open hf
      refine p_getN (k := 5) X hM pc_1 (by decide) q243 rfl g73 dX2_people_417 ?_
      obtain ⟨b26, hf⟩ := ckc_open hf
      obtain ⟨r16, h35, g74, hf⟩ := bnx_ret hf
      refine p_callV_r (ci := 2) (As := [.ref p28]) (rest := []) X hM hl rfl b26 pcy_X2_known q907 q909 qs19 (kX2_known g74) rfl (Nat.le_of_ble_eq_true rfl) (Nat.le_of_ble_eq_true rfl) rfl dX2_people_420 (fun H locs hM => ?_)
      refine g_istore (lv' := [(9, .int r16), (0, .ref a0), (1, .ref a1), (2, .int a2), (4, .int x1)]) G dX2_people_423 hl (Nat.le_of_ble_eq_true rfl) rfl (fun ls hl => ?_)
      refine g_aload_n G dX2_people_425 rfl (lv_at hl 1 rfl) ?_
      obtain ⟨p29, g76, hf⟩ := vA_open hf
      refine p_get (k := 6) X hM pc_2 (by decide) q355 rfl g76 dX2_people_426 ?_
      obtain ⟨p30, g77, hf⟩ := vA_open hf
      refine p_getN (k := 5) X hM pc_1 (by decide) q243 rfl g77 dX2_people_429 ?_
      refine g_iload G dX2_people_432 (lv_at hl 0 rfl) ?_
      obtain ⟨b27, hf⟩ := ckc_open hf
      obtain ⟨q3, h36, g78, hf⟩ := bnd_open hf
      refine p_callF_r (As := [.int r16]) (rest := []) X hM hl b27 pcy_J2_get (fun U hK => hK.1.2.2.1.2.1) ⟨by decide +kernel, by decide +kernel, by decide +kernel⟩ q912 q763 q761 (kJ2_get g78) rfl (Nat.le_of_ble_eq_true rfl) (Nat.le_of_ble_eq_true rfl) rfl dX2_people_434 (fun H locs hM => ?_)
      obtain ⟨n3, e3, hfq⟩ := qS_open hf
      clear hf; subst e3; have hf := hfq; clear hfq
      obtain ⟨b29, hf⟩ := ckc_open hf
      refine p_castS X hM (ci := 8) rfl q883 b29 dX2_people_439 ?_
      obtain ⟨v11, g79, hf⟩ := vI_open hf
      refine p_getN (k := 2) X hM pc_8 (by decide) q893 rfl g79 dX2_people_442 ?_
      refine g_iconst (v := (-1)) G dX2_people_445 rfl ?_
      refine g_icmp_eq (tgt := 459) G dX2_people_446 rfl (fun c12 => ?_) (fun c12 => ?_)
      · have hf := it_pos c12 hf
        refine g_aload_n G dX2_people_459 rfl (lv_at hl 1 rfl) ?_
        refine p_ldcs X (i := 7) rfl dX2_people_460 ?_
        obtain ⟨b30, hf⟩ := ckc_open hf
        obtain ⟨u3, h37, g80, hf⟩ := bnx_ret hf
        refine p_callV_v (ci := 2) (As := [.ref (dK D 7)]) (rest := []) X hM hl rfl b30 pcy_X2_word_2 q785 q787 qs14 (kX2_word_2 g80) rfl (Nat.le_of_ble_eq_true rfl) (Nat.le_of_ble_eq_true rfl) rfl dX2_people_462 (fun H locs hM => ?_)
        refine g_aload_n G dX2_people_465 rfl (lv_at hl 1 rfl) ?_
        refine g_aload_n G dX2_people_466 rfl (lv_at hl 1 rfl) ?_
        obtain ⟨p31, g82, hf⟩ := vA_open hf
        refine p_get (k := 6) X hM pc_2 (by decide) q355 rfl g82 dX2_people_467 ?_
        obtain ⟨p32, g83, hf⟩ := vA_open hf
        refine p_getN (k := 5) X hM pc_1 (by decide) q243 rfl g83 dX2_people_470 ?_
        obtain ⟨b31, hf⟩ := ckc_open hf
        obtain ⟨r17, h38, g84, hf⟩ := bnx_ret hf
        refine p_callV_r (ci := 2) (As := [.ref p32]) (rest := []) X hM hl rfl b31 pcy_X2_known q907 q909 qs19 (kX2_known g84) rfl (Nat.le_of_ble_eq_true rfl) (Nat.le_of_ble_eq_true rfl) rfl dX2_people_473 (fun H locs hM => ?_)
        refine g_istore (lv' := [(10, .int r17), (9, .int r16), (0, .ref a0), (1, .ref a1), (2, .int a2), (4, .int x1)]) G dX2_people_476 hl (Nat.le_of_ble_eq_true rfl) rfl (fun ls hl => ?_)
        refine g_aload_n G dX2_people_478 rfl (lv_at hl 2 rfl) ?_
        obtain ⟨p33, g86, hf⟩ := vA_open hf
        refine p_get (k := 6) X hM pc_2 (by decide) q355 rfl g86 dX2_people_479 ?_
        refine g_iload G dX2_people_482 (lv_at hl 0 rfl) ?_
        refine g_iload G dX2_people_484 (lv_at hl 1 rfl) ?_
        obtain ⟨b32, hf⟩ := ckc_open hf
        obtain ⟨r18, h39, g87, hf⟩ := bnd_open hf
        refine p_callV_r (ci := 1) (As := [.int r17, .int r16]) (rest := []) X hM hl rfl b32 pcy_X1_isBy q917 q918 q919 (kX1_isBy g87) rfl (Nat.le_of_ble_eq_true rfl) (Nat.le_of_ble_eq_true rfl) rfl dX2_people_486 (fun H locs hM => ?_)
        refine g_if_eq (tgt := 502) G dX2_people_489 rfl (fun c13 => ?_) (fun c13 => ?_)
        · have hf := it_pos c13 hf
          refine g_aload_n G dX2_people_502 rfl (lv_at hl 2 rfl) ?_
          obtain ⟨p34, g88, hf⟩ := vA_open hf
          refine p_get (k := 6) X hM pc_2 (by decide) q355 rfl g88 dX2_people_503 ?_
          obtain ⟨p35, g89, hf⟩ := vA_open hf
          refine p_getN (k := 5) X hM pc_1 (by decide) q243 rfl g89 dX2_people_506 ?_
          refine g_iload G dX2_people_509 (lv_at hl 1 rfl) ?_
          obtain ⟨b33, hf⟩ := ckc_open hf
          obtain ⟨q4, h40, g90, hf⟩ := bnd_open hf
          refine p_callF_r (As := [.int r16]) (rest := []) X hM hl b33 pcy_J2_get (fun U hK => hK.1.2.2.1.2.1) ⟨by decide +kernel, by decide +kernel, by decide +kernel⟩ q912 q763 q761 (kJ2_get g90) rfl (Nat.le_of_ble_eq_true rfl) (Nat.le_of_ble_eq_true rfl) rfl dX2_people_511 (fun H locs hM => ?_)
          obtain ⟨n4, e4, hfq⟩ := qS_open hf
          clear hf; subst e4; have hf := hfq; clear hfq
          obtain ⟨b35, hf⟩ := ckc_open hf
          refine p_castS X hM (ci := 8) rfl q883 b35 dX2_people_516 ?_
          refine g_iload G dX2_people_519 (lv_at hl 0 rfl) ?_
          obtain ⟨h41, g91, hf⟩ := bnv_open hf
          refine p_putN (k := 2) X hM pc_8 (by decide) q893 rfl rfl rfl rfl g91 dX2_people_521 (fun H locs hM => ?_)
          refine g_iconst (v := 1) G dX2_people_524 rfl ?_
          cases hf
          exact p_zret X hM rfl dX2_people_525
        · have hf := it_neg c13 hf
          refine g_aload_n G dX2_people_492 rfl (lv_at hl 2 rfl) ?_
          refine g_iconst (v := 3) G dX2_people_493 rfl ?_
          refine g_aload_n G dX2_people_494 rfl (lv_at hl 2 rfl) ?_
          obtain ⟨v12, g92, hf⟩ := vI_open hf
          refine p_get (k := 3) X hM pc_2 (by decide) q352 rfl g92 dX2_people_495 ?_
          obtain ⟨b36, hf⟩ := ckc_open hf
          obtain ⟨p36, h42, g93, hf⟩ := bnd_open hf
          refine p_callV_r (ci := 2) (As := [.int 3, .int v12]) (rest := []) X hM hl rfl b36 pcy_X2_wrong q555 q557 qs7 (kX2_wrong g93) rfl (Nat.le_of_ble_eq_true rfl) (Nat.le_of_ble_eq_true rfl) rfl dX2_people_498 (fun H locs hM => ?_)
          exact absurd hf (by intro z; cases z)
      · have hf := it_neg c12 hf
        refine g_aload_n G dX2_people_449 rfl (lv_at hl 1 rfl) ?_
        refine g_iconst (v := 3) G dX2_people_450 rfl ?_
        refine g_aload_n G dX2_people_451 rfl (lv_at hl 1 rfl) ?_
        obtain ⟨v13, g94, hf⟩ := vI_open hf
        refine p_get (k := 3) X hM pc_2 (by decide) q352 rfl g94 dX2_people_452 ?_
        obtain ⟨b37, hf⟩ := ckc_open hf
        obtain ⟨p37, h43, g95, hf⟩ := bnd_open hf
        refine p_callV_r (ci := 2) (As := [.int 3, .int v13]) (rest := []) X hM hl rfl b37 pcy_X2_wrong q555 q557 qs7 (kX2_wrong g95) rfl (Nat.le_of_ble_eq_true rfl) (Nat.le_of_ble_eq_true rfl) rfl dX2_people_455 (fun H locs hM => ?_)
        exact absurd hf (by intro z; cases z)
    have hf := it_neg c11 hf
    refine g_tableOut (tgt := 526) G dX2_people_134 (by have ec1 := lv_neT c1 (a := 0) rfl; have ec3 := lv_neT c3 (a := 1) rfl; have ec5 := lv_neT c5 (a := 2) rfl; have ec8 := lv_neT c8 (a := 3) rfl; have ec11 := lv_neT c11 (a := 4) rfl; omega) rfl ?_
    refine g_iconst (v := 0) G dX2_people_526 rfl ?_
    cases hf
    exact p_zret X hM rfl dX2_people_527
  by_cases c14 : r1 = (-991716523)
  · have hf := it_pos c14 hf
    refine g_lookup (off := 66) (tgt := 75) G dX2_people_9 (by decide) (by rw [c14]; rfl) rfl ?_
    refine g_aload_n G dX2_people_75 rfl (lv_at hl 1 rfl) ?_
    refine p_ldcs X (i := 1) rfl dX2_people_76 ?_
    obtain ⟨b38, hf⟩ := ckc_open hf
    obtain ⟨r19, h44, g96, hf⟩ := bnd_open hf
    refine p_callV_r (ci := 22) (As := [va_rf (some (dK D 1))]) (rest := []) X hM hl rfl b38 pcy_J6_equals q709 q710 q711 (kJ6_equals g96) rfl (Nat.le_of_ble_eq_true rfl) (Nat.le_of_ble_eq_true rfl) rfl dX2_people_78 (fun H locs hM => ?_)
    refine g_if_eq (tgt := 132) G dX2_people_81 rfl (fun c15 => ?_) (fun c15 => ?_)
    · have hf := it_pos c15 hf
      exact J132 _ _ _ _ hf hM ls (lv_sub hl [2, 3, 4, 0] rfl)
    · have hf := it_neg c15 hf
      refine g_iconst (v := 1) G dX2_people_84 rfl ?_
      refine g_istore (lv' := [(4, .int 1), (3, .ref a1), (0, .ref a0), (1, .ref a1), (2, .int a2)]) G dX2_people_85 hl (Nat.le_of_ble_eq_true rfl) rfl (fun ls hl => ?_)
      refine g_goto (tgt := 132) G dX2_people_87 rfl ?_
      exact J132 _ _ _ _ hf hM ls (lv_sub hl [2, 3, 4, 0] rfl)
  have hf := it_neg c14 hf
  by_cases c16 : r1 = (-880816373)
  · have hf := it_pos c16 hf
    refine g_lookup (off := 111) (tgt := 120) G dX2_people_9 (by decide) (by rw [c16]; rfl) rfl ?_
    refine g_aload_n G dX2_people_120 rfl (lv_at hl 1 rfl) ?_
    refine p_ldcs X (i := 4) rfl dX2_people_121 ?_
    obtain ⟨b39, hf⟩ := ckc_open hf
    obtain ⟨r20, h45, g97, hf⟩ := bnd_open hf
    refine p_callV_r (ci := 22) (As := [va_rf (some (dK D 4))]) (rest := []) X hM hl rfl b39 pcy_J6_equals q709 q710 q711 (kJ6_equals g97) rfl (Nat.le_of_ble_eq_true rfl) (Nat.le_of_ble_eq_true rfl) rfl dX2_people_123 (fun H locs hM => ?_)
    refine g_if_eq (tgt := 132) G dX2_people_126 rfl (fun c17 => ?_) (fun c17 => ?_)
    · have hf := it_pos c17 hf
      exact J132 _ _ _ _ hf hM ls (lv_sub hl [2, 3, 4, 0] rfl)
    · have hf := it_neg c17 hf
      refine g_iconst (v := 4) G dX2_people_129 rfl ?_
      refine g_istore (lv' := [(4, .int 4), (3, .ref a1), (0, .ref a0), (1, .ref a1), (2, .int a2)]) G dX2_people_130 hl (Nat.le_of_ble_eq_true rfl) rfl (fun ls hl => ?_)
      exact J132 _ _ _ _ hf hM ls (lv_sub hl [2, 3, 4, 0] rfl)
  have hf := it_neg c16 hf
  by_cases c18 : r1 = 3122094
  · have hf := it_pos c18 hf
    refine g_lookup (off := 96) (tgt := 105) G dX2_people_9 (by decide) (by rw [c18]; rfl) rfl ?_
    refine g_aload_n G dX2_people_105 rfl (lv_at hl 1 rfl) ?_
    refine p_ldcs X (i := 3) rfl dX2_people_106 ?_
    obtain ⟨b40, hf⟩ := ckc_open hf
    obtain ⟨r21, h46, g98, hf⟩ := bnd_open hf
    refine p_callV_r (ci := 22) (As := [va_rf (some (dK D 3))]) (rest := []) X hM hl rfl b40 pcy_J6_equals q709 q710 q711 (kJ6_equals g98) rfl (Nat.le_of_ble_eq_true rfl) (Nat.le_of_ble_eq_true rfl) rfl dX2_people_108 (fun H locs hM => ?_)
    refine g_if_eq (tgt := 132) G dX2_people_111 rfl (fun c19 => ?_) (fun c19 => ?_)
    · have hf := it_pos c19 hf
      exact J132 _ _ _ _ hf hM ls (lv_sub hl [2, 3, 4, 0] rfl)
    · have hf := it_neg c19 hf
      refine g_iconst (v := 3) G dX2_people_114 rfl ?_
      refine g_istore (lv' := [(4, .int 3), (3, .ref a1), (0, .ref a0), (1, .ref a1), (2, .int a2)]) G dX2_people_115 hl (Nat.le_of_ble_eq_true rfl) rfl (fun ls hl => ?_)
      refine g_goto (tgt := 132) G dX2_people_117 rfl ?_
      exact J132 _ _ _ _ hf hM ls (lv_sub hl [2, 3, 4, 0] rfl)
  have hf := it_neg c18 hf
  by_cases c20 : r1 = 3135084
  · have hf := it_pos c20 hf
    refine g_lookup (off := 51) (tgt := 60) G dX2_people_9 (by decide) (by rw [c20]; rfl) rfl ?_
    refine g_aload_n G dX2_people_60 rfl (lv_at hl 1 rfl) ?_
    refine p_ldcs X (i := 0) rfl dX2_people_61 ?_
    obtain ⟨b41, hf⟩ := ckc_open hf
    obtain ⟨r22, h47, g99, hf⟩ := bnd_open hf
    refine p_callV_r (ci := 22) (As := [va_rf (some (dK D 0))]) (rest := []) X hM hl rfl b41 pcy_J6_equals q709 q710 q711 (kJ6_equals g99) rfl (Nat.le_of_ble_eq_true rfl) (Nat.le_of_ble_eq_true rfl) rfl dX2_people_63 (fun H locs hM => ?_)
    refine g_if_eq (tgt := 132) G dX2_people_66 rfl (fun c21 => ?_) (fun c21 => ?_)
    · have hf := it_pos c21 hf
      exact J132 _ _ _ _ hf hM ls (lv_sub hl [2, 3, 4, 0] rfl)
    · have hf := it_neg c21 hf
      refine g_iconst (v := 0) G dX2_people_69 rfl ?_
      refine g_istore (lv' := [(4, .int 0), (3, .ref a1), (0, .ref a0), (1, .ref a1), (2, .int a2)]) G dX2_people_70 hl (Nat.le_of_ble_eq_true rfl) rfl (fun ls hl => ?_)
      refine g_goto (tgt := 132) G dX2_people_72 rfl ?_
      exact J132 _ _ _ _ hf hM ls (lv_sub hl [2, 3, 4, 0] rfl)
  have hf := it_neg c20 hf
  by_cases c22 : r1 = 102204232
  · have hf := it_pos c22 hf
    refine g_lookup (off := 81) (tgt := 90) G dX2_people_9 (by decide) (by rw [c22]; rfl) rfl ?_
    refine g_aload_n G dX2_people_90 rfl (lv_at hl 1 rfl) ?_
    refine p_ldcs X (i := 2) rfl dX2_people_91 ?_
    obtain ⟨b42, hf⟩ := ckc_open hf
    obtain ⟨r23, h48, g100, hf⟩ := bnd_open hf
    refine p_callV_r (ci := 22) (As := [va_rf (some (dK D 2))]) (rest := []) X hM hl rfl b42 pcy_J6_equals q709 q710 q711 (kJ6_equals g100) rfl (Nat.le_of_ble_eq_true rfl) (Nat.le_of_ble_eq_true rfl) rfl dX2_people_93 (fun H locs hM => ?_)
    refine g_if_eq (tgt := 132) G dX2_people_96 rfl (fun c23 => ?_) (fun c23 => ?_)
    · have hf := it_pos c23 hf
      exact J132 _ _ _ _ hf hM ls (lv_sub hl [2, 3, 4, 0] rfl)
    · have hf := it_neg c23 hf
      refine g_iconst (v := 2) G dX2_people_99 rfl ?_
      refine g_istore (lv' := [(4, .int 2), (3, .ref a1), (0, .ref a0), (1, .ref a1), (2, .int a2)]) G dX2_people_100 hl (Nat.le_of_ble_eq_true rfl) rfl (fun ls hl => ?_)
      refine g_goto (tgt := 132) G dX2_people_102 rfl ?_
      exact J132 _ _ _ _ hf hM ls (lv_sub hl [2, 3, 4, 0] rfl)
  have hf := it_neg c22 hf
  refine g_lookup (off := 123) (tgt := 132) G dX2_people_9 (by decide) ((lv_osw (k := (-991716523)) c14 (by decide)).trans ((lv_osw (k := (-880816373)) c16 (by decide)).trans ((lv_osw (k := 3122094) c18 (by decide)).trans ((lv_osw (k := 3135084) c20 (by decide)).trans ((lv_osw (k := 102204232) c22 (by decide)).trans rfl))))) rfl ?_
  exact J132 _ _ _ _ hf hM ls (lv_sub hl [2, 3, 4, 0] rfl)
set_option maxHeartbeats 1000000 in
theorem xX2_people {l : Launch} {D : PD} {A : Nat → Prop} {cap : Nat × Nat} {a0 : Nat} {a1 : Nat} {a2 : Int32} {h h' : PH} {q : Nat} (hf : fX2_people D cap a0 a1 a2 h = some (.inr q, h')) : XMet l D A cap yX2_people cX2_people 11 (Option.some Jvm.ClassFile.FieldType.boolean) 9 [.ref a0, .ref a1, .int a2] h h' (q) := by
  unfold fX2_people at hf
  refine p_headT (own := RX2) (ini := false) (pn_X2 rfl) rfl (fun q => by cases q) (Nat.le_of_ble_eq_true rfl) (fun m Z cx sx H0 ls X XT hM hl => ?_)
  have G := X.g
  have hl : lv_has ls 11 [(0, .ref a0), (1, .ref a1), (2, .int a2)] := hl
  refine g_aload_n G dX2_people_0 rfl (lv_at hl 1 rfl) ?_
  refine g_astore_n (i := 3) (lv' := [(3, .ref a1), (0, .ref a0), (1, .ref a1), (2, .int a2)]) G dX2_people_1 rfl hl (Nat.le_of_ble_eq_true rfl) rfl (fun ls hl => ?_)
  refine g_iconst (v := (-1)) G dX2_people_2 rfl ?_
  refine g_istore (lv' := [(4, .int (-1)), (3, .ref a1), (0, .ref a0), (1, .ref a1), (2, .int a2)]) G dX2_people_3 hl (Nat.le_of_ble_eq_true rfl) rfl (fun ls hl => ?_)
  refine g_aload_n G dX2_people_5 rfl (lv_at hl 1 rfl) ?_
  obtain ⟨b1, hf⟩ := ckc_open hf
  obtain ⟨r1, h1, g1, hf⟩ := bnd_open hf
  refine p_callV_r (ci := 22) (As := []) (rest := []) X hM hl rfl b1 pcy_J6_hashCode q655 q656 q657 (kJ6_hashCode g1) rfl (Nat.le_of_ble_eq_true rfl) (Nat.le_of_ble_eq_true rfl) rfl dX2_people_6 (fun H locs hM => ?_)
  obtain ⟨j132, ej132, hf⟩ := jn_open hf
  have J132 : ∀ (x1 : Int32) (h2 : PH) (H : Heap) (locs : List Loc), j132 x1 h2 = some (.inr q, h') → PI D A cap H0 h2 H locs → ∀ ls : Array Slot, lv_has ls 11 [(0, .ref a0), (1, .ref a1), (2, .int a2), (4, .int x1)] → Z H locs (cx H) (sx H) (F0 m 132 ls []) := by
    intro x1 h2 H locs hf hM ls hl
    rw [ej132] at hf
    refine g_iload G dX2_people_132 (lv_at hl 3 rfl) ?_
    by_cases c1 : x1 = 0
    · have hf := it_pos c1 hf
      refine g_tableIn (off := 34) (tgt := 168) G dX2_people_134 (by rw [c1]; decide) (by rw [c1]; decide) (by rw [c1]; rfl) rfl ?_
      refine g_aload_n G dX2_people_168 rfl (lv_at hl 0 rfl) ?_
      refine g_aload_n G dX2_people_169 rfl (lv_at hl 0 rfl) ?_
      obtain ⟨p1, g2, hf⟩ := vA_open hf
      refine p_get (k := 6) X hM pc_2 (by decide) q355 rfl g2 dX2_people_170 ?_
      obtain ⟨p2, g3, hf⟩ := vA_open hf
      refine p_getN (k := 4) X hM pc_1 (by decide) q239 rfl g3 dX2_people_173 ?_
      obtain ⟨b2, hf⟩ := ckc_open hf
      obtain ⟨r2, h3, g4, hf⟩ := bnd_open hf
      refine p_callF_r (As := []) (rest := [.ref a0]) X hM hl b2 pcy_J2_size (fun U hK => hK.1.2.2.1.1) ⟨by decide +kernel, by decide +kernel, by decide +kernel⟩ q721 q727 q725 (kJ2_size g4) rfl (Nat.le_of_ble_eq_true rfl) (Nat.le_of_ble_eq_true rfl) rfl dX2_people_176 (fun H locs hM => ?_)
      refine g_bipush (v := 8) G dX2_people_181 rfl ?_
      obtain ⟨j191, ej191, hf⟩ := jn_open hf
      have J191 : ∀ (x2 : Bool) (h4 : PH) (H : Heap) (locs : List Loc), j191 x2 h4 = some (.inr q, h') → PI D A cap H0 h4 H locs → ∀ ls : Array Slot, lv_has ls 11 [(0, .ref a0), (2, .int a2)] → Z H locs (cx H) (sx H) (F0 m 191 ls [.int (bI x2), .ref a0]) := by
        intro x2 h4 H locs hf hM ls hl
        rw [ej191] at hf
        refine g_iload_n G dX2_people_191 rfl (lv_at hl 1 rfl) ?_
        obtain ⟨b3, hf⟩ := ckc_open hf
        refine bnx_split hf (fun g6 => ?_) (fun u1 h5 g5 hf => ?_)
        · exact p_callT (ci := 2) (As := [.int (bI x2), .int a2]) (rest := []) XT hM hl rfl b3 pcy_X2_most q551 q553 qs6 (xX2_most g6) rfl (Nat.le_of_ble_eq_true rfl) (Nat.le_of_ble_eq_true rfl) rfl dX2_people_192
        refine p_callV_v (ci := 2) (As := [.int (bI x2), .int a2]) (rest := []) X hM hl rfl b3 pcy_X2_most q551 q553 qs6 (kX2_most g5) rfl (Nat.le_of_ble_eq_true rfl) (Nat.le_of_ble_eq_true rfl) rfl dX2_people_192 (fun H locs hM => ?_)
        refine g_aload_n G dX2_people_195 rfl (lv_at hl 0 rfl) ?_
        obtain ⟨b4, hf⟩ := ckc_open hf
        refine bnx_split hf (fun g8 => ?_) (fun p3 h6 g7 hf => ?_)
        · exact p_callT (ci := 2) (As := []) (rest := []) XT hM hl rfl b4 pcy_X2_fresh q730 q732 qs11 (xX2_fresh g8) rfl (Nat.le_of_ble_eq_true rfl) (Nat.le_of_ble_eq_true rfl) rfl dX2_people_196
        refine p_callV_r (ci := 2) (As := []) (rest := []) X hM hl rfl b4 pcy_X2_fresh q730 q732 qs11 (kX2_fresh g7) rfl (Nat.le_of_ble_eq_true rfl) (Nat.le_of_ble_eq_true rfl) rfl dX2_people_196 (fun H locs hM => ?_)
        refine g_astore (lv' := [(5, .ref p3), (0, .ref a0), (2, .int a2)]) G dX2_people_199 hl (Nat.le_of_ble_eq_true rfl) rfl (fun ls hl => ?_)
        refine g_aload_n G dX2_people_201 rfl (lv_at hl 1 rfl) ?_
        obtain ⟨p4, g9, hf⟩ := vA_open hf
        refine p_get (k := 6) X hM pc_2 (by decide) q355 rfl g9 dX2_people_202 ?_
        obtain ⟨p5, g10, hf⟩ := vA_open hf
        refine p_getN (k := 4) X hM pc_1 (by decide) q239 rfl g10 dX2_people_205 ?_
        obtain ⟨p6, h7, g11, hf⟩ := bnd_open hf
        refine p_new X hM pc_7 q778 q779 q163 (by decide +kernel) g11 dX2_people_208 (fun H locs hM => ?_)
        refine g_dup G dX2_people_211 rfl ?_
        refine g_aload G dX2_people_212 (lv_at hl 0 rfl) ?_
        refine g_aload_n G dX2_people_214 rfl (lv_at hl 1 rfl) ?_
        refine p_ldcs X (i := 5) rfl dX2_people_215 ?_
        refine g_iconst (v := 1) G dX2_people_217 rfl ?_
        refine g_bipush (v := 9) G dX2_people_218 rfl ?_
        obtain ⟨b5, hf⟩ := ckc_open hf
        refine bnx_split hf (fun g13 => ?_) (fun r3 h8 g12 hf => ?_)
        · exact p_callT (ci := 2) (As := [.ref (dK D 5), .int 1, .int 9]) (rest := [.ref p3, .ref p6, .ref p6, .ref p5]) XT hM hl rfl b5 pcy_X2_number q781 q783 qs13 (xX2_number g13) rfl (Nat.le_of_ble_eq_true rfl) (Nat.le_of_ble_eq_true rfl) rfl dX2_people_220
        refine p_callV_r (ci := 2) (As := [.ref (dK D 5), .int 1, .int 9]) (rest := [.ref p3, .ref p6, .ref p6, .ref p5]) X hM hl rfl b5 pcy_X2_number q781 q783 qs13 (kX2_number g12) rfl (Nat.le_of_ble_eq_true rfl) (Nat.le_of_ble_eq_true rfl) rfl dX2_people_220 (fun H locs hM => ?_)
        obtain ⟨h9, g14, hf⟩ := bnv_open hf
        refine p_callI_v (As := [.ref p3, .int r3]) (rest := [.ref p6, .ref p5]) X hM hl pcy_X7_init rfl q796 q797 (kX7_init g14) rfl (Nat.le_of_ble_eq_true rfl) (Nat.le_of_ble_eq_true rfl) rfl dX2_people_223 (fun H locs hM => ?_)
        obtain ⟨b6, hf⟩ := ckc_open hf
        obtain ⟨r4, h10, g15, hf⟩ := bnd_open hf
        refine p_callF_r (As := [va_rf (some p6)]) (rest := []) X hM hl b6 pcy_J2_add (fun U hK => hK.1.2.2.1.2.2) ⟨by decide +kernel, by decide +kernel, by decide +kernel⟩ q809 q814 q812 (kJ2_add g15) rfl (Nat.le_of_ble_eq_true rfl) (Nat.le_of_ble_eq_true rfl) rfl dX2_people_226 (fun H locs hM => ?_)
        refine g_pop G dX2_people_231 rfl ?_
        refine g_iconst (v := 1) G dX2_people_232 rfl ?_
        exact absurd hf (by intro z; cases z)
      refine g_icmp_ne (tgt := 190) G dX2_people_183 rfl (fun c2 => ?_) (fun c2 => ?_)
      · have hf := it_neg c2 hf
        refine g_iconst (v := 0) G dX2_people_190 rfl ?_
        exact J191 _ _ _ _ hf hM ls (lv_sub hl [0, 2] rfl)
      · have hf := it_pos c2 hf
        refine g_iconst (v := 1) G dX2_people_186 rfl ?_
        refine g_goto (tgt := 191) G dX2_people_187 rfl ?_
        exact J191 _ _ _ _ hf hM ls (lv_sub hl [0, 2] rfl)
    have hf := it_neg c1 hf
    by_cases c3 : x1 = 1
    · have hf := it_pos c3 hf
      refine g_tableIn (off := 100) (tgt := 234) G dX2_people_134 (by rw [c3]; decide) (by rw [c3]; decide) (by rw [c3]; rfl) rfl ?_
      refine g_aload_n G dX2_people_234 rfl (lv_at hl 0 rfl) ?_
      refine g_aload_n G dX2_people_235 rfl (lv_at hl 0 rfl) ?_
      obtain ⟨p7, g16, hf⟩ := vA_open hf
      refine p_get (k := 6) X hM pc_2 (by decide) q355 rfl g16 dX2_people_236 ?_
      obtain ⟨p8, g17, hf⟩ := vA_open hf
      refine p_getN (k := 5) X hM pc_1 (by decide) q243 rfl g17 dX2_people_239 ?_
      obtain ⟨b7, hf⟩ := ckc_open hf
      obtain ⟨r5, h11, g18, hf⟩ := bnd_open hf
      refine p_callF_r (As := []) (rest := [.ref a0]) X hM hl b7 pcy_J2_size (fun U hK => hK.1.2.2.1.1) ⟨by decide +kernel, by decide +kernel, by decide +kernel⟩ q721 q727 q725 (kJ2_size g18) rfl (Nat.le_of_ble_eq_true rfl) (Nat.le_of_ble_eq_true rfl) rfl dX2_people_242 (fun H locs hM => ?_)
      refine g_bipush (v := 8) G dX2_people_247 rfl ?_
      obtain ⟨j257, ej257, hf⟩ := jn_open hf
      have J257 : ∀ (x3 : Bool) (h12 : PH) (H : Heap) (locs : List Loc), j257 x3 h12 = some (.inr q, h') → PI D A cap H0 h12 H locs → ∀ ls : Array Slot, lv_has ls 11 [(0, .ref a0), (2, .int a2)] → Z H locs (cx H) (sx H) (F0 m 257 ls [.int (bI x3), .ref a0]) := by
        intro x3 h12 H locs hf hM ls hl
        rw [ej257] at hf
        refine g_iload_n G dX2_people_257 rfl (lv_at hl 1 rfl) ?_
        obtain ⟨b8, hf⟩ := ckc_open hf
        refine bnx_split hf (fun g20 => ?_) (fun u2 h13 g19 hf => ?_)
        · exact p_callT (ci := 2) (As := [.int (bI x3), .int a2]) (rest := []) XT hM hl rfl b8 pcy_X2_most q551 q553 qs6 (xX2_most g20) rfl (Nat.le_of_ble_eq_true rfl) (Nat.le_of_ble_eq_true rfl) rfl dX2_people_258
        refine p_callV_v (ci := 2) (As := [.int (bI x3), .int a2]) (rest := []) X hM hl rfl b8 pcy_X2_most q551 q553 qs6 (kX2_most g19) rfl (Nat.le_of_ble_eq_true rfl) (Nat.le_of_ble_eq_true rfl) rfl dX2_people_258 (fun H locs hM => ?_)
        refine g_aload_n G dX2_people_261 rfl (lv_at hl 0 rfl) ?_
        obtain ⟨b9, hf⟩ := ckc_open hf
        refine bnx_split hf (fun g22 => ?_) (fun p9 h14 g21 hf => ?_)
        · exact p_callT (ci := 2) (As := []) (rest := []) XT hM hl rfl b9 pcy_X2_fresh q730 q732 qs11 (xX2_fresh g22) rfl (Nat.le_of_ble_eq_true rfl) (Nat.le_of_ble_eq_true rfl) rfl dX2_people_262
        refine p_callV_r (ci := 2) (As := []) (rest := []) X hM hl rfl b9 pcy_X2_fresh q730 q732 qs11 (kX2_fresh g21) rfl (Nat.le_of_ble_eq_true rfl) (Nat.le_of_ble_eq_true rfl) rfl dX2_people_262 (fun H locs hM => ?_)
        refine g_astore (lv' := [(6, .ref p9), (0, .ref a0), (2, .int a2)]) G dX2_people_265 hl (Nat.le_of_ble_eq_true rfl) rfl (fun ls hl => ?_)
        refine g_aload_n G dX2_people_267 rfl (lv_at hl 1 rfl) ?_
        obtain ⟨p10, g23, hf⟩ := vA_open hf
        refine p_get (k := 6) X hM pc_2 (by decide) q355 rfl g23 dX2_people_268 ?_
        obtain ⟨p11, g24, hf⟩ := vA_open hf
        refine p_getN (k := 5) X hM pc_1 (by decide) q243 rfl g24 dX2_people_271 ?_
        obtain ⟨p12, h15, g25, hf⟩ := bnd_open hf
        refine p_new X hM pc_8 q883 q884 q168 (by decide +kernel) g25 dX2_people_274 (fun H locs hM => ?_)
        refine g_dup G dX2_people_277 rfl ?_
        refine g_aload G dX2_people_278 (lv_at hl 0 rfl) ?_
        refine g_aload_n G dX2_people_280 rfl (lv_at hl 1 rfl) ?_
        refine p_ldcs X (i := 6) rfl dX2_people_281 ?_
        refine g_iconst (v := 0) G dX2_people_283 rfl ?_
        refine g_bipush (v := 99) G dX2_people_284 rfl ?_
        obtain ⟨b10, hf⟩ := ckc_open hf
        refine bnx_split hf (fun g27 => ?_) (fun r6 h16 g26 hf => ?_)
        · exact p_callT (ci := 2) (As := [.ref (dK D 6), .int 0, .int 99]) (rest := [.ref p9, .ref p12, .ref p12, .ref p11]) XT hM hl rfl b10 pcy_X2_number q781 q783 qs13 (xX2_number g27) rfl (Nat.le_of_ble_eq_true rfl) (Nat.le_of_ble_eq_true rfl) rfl dX2_people_286
        refine p_callV_r (ci := 2) (As := [.ref (dK D 6), .int 0, .int 99]) (rest := [.ref p9, .ref p12, .ref p12, .ref p11]) X hM hl rfl b10 pcy_X2_number q781 q783 qs13 (kX2_number g26) rfl (Nat.le_of_ble_eq_true rfl) (Nat.le_of_ble_eq_true rfl) rfl dX2_people_286 (fun H locs hM => ?_)
        obtain ⟨h17, g28, hf⟩ := bnv_open hf
        refine p_callI_v (As := [.ref p9, .int r6]) (rest := [.ref p12, .ref p11]) X hM hl pcy_X8_init rfl q886 q887 (kX8_init g28) rfl (Nat.le_of_ble_eq_true rfl) (Nat.le_of_ble_eq_true rfl) rfl dX2_people_289 (fun H locs hM => ?_)
        obtain ⟨b11, hf⟩ := ckc_open hf
        obtain ⟨r7, h18, g29, hf⟩ := bnd_open hf
        refine p_callF_r (As := [va_rf (some p12)]) (rest := []) X hM hl b11 pcy_J2_add (fun U hK => hK.1.2.2.1.2.2) ⟨by decide +kernel, by decide +kernel, by decide +kernel⟩ q809 q814 q812 (kJ2_add g29) rfl (Nat.le_of_ble_eq_true rfl) (Nat.le_of_ble_eq_true rfl) rfl dX2_people_292 (fun H locs hM => ?_)
        refine g_pop G dX2_people_297 rfl ?_
        refine g_iconst (v := 1) G dX2_people_298 rfl ?_
        exact absurd hf (by intro z; cases z)
      refine g_icmp_ne (tgt := 256) G dX2_people_249 rfl (fun c4 => ?_) (fun c4 => ?_)
      · have hf := it_neg c4 hf
        refine g_iconst (v := 0) G dX2_people_256 rfl ?_
        exact J257 _ _ _ _ hf hM ls (lv_sub hl [0, 2] rfl)
      · have hf := it_pos c4 hf
        refine g_iconst (v := 1) G dX2_people_252 rfl ?_
        refine g_goto (tgt := 257) G dX2_people_253 rfl ?_
        exact J257 _ _ _ _ hf hM ls (lv_sub hl [0, 2] rfl)
    have hf := it_neg c3 hf
    by_cases c5 : x1 = 2
    · have hf := it_pos c5 hf
      refine g_tableIn (off := 166) (tgt := 300) G dX2_people_134 (by rw [c5]; decide) (by rw [c5]; decide) (by rw [c5]; rfl) rfl ?_
      refine g_aload_n G dX2_people_300 rfl (lv_at hl 0 rfl) ?_
      obtain ⟨p13, g30, hf⟩ := vA_open hf
      refine p_get (k := 6) X hM pc_2 (by decide) q355 rfl g30 dX2_people_301 ?_
      obtain ⟨p14, g31, hf⟩ := vA_open hf
      refine p_getN (k := 5) X hM pc_1 (by decide) q243 rfl g31 dX2_people_304 ?_
      refine g_aload_n G dX2_people_307 rfl (lv_at hl 0 rfl) ?_
      refine g_aload_n G dX2_people_308 rfl (lv_at hl 0 rfl) ?_
      obtain ⟨p15, g32, hf⟩ := vA_open hf
      refine p_get (k := 6) X hM pc_2 (by decide) q355 rfl g32 dX2_people_309 ?_
      obtain ⟨p16, g33, hf⟩ := vA_open hf
      refine p_getN (k := 5) X hM pc_1 (by decide) q243 rfl g33 dX2_people_312 ?_
      obtain ⟨b12, hf⟩ := ckc_open hf
      refine bnx_split hf (fun g35 => ?_) (fun r8 h19 g34 hf => ?_)
      · exact p_callT (ci := 2) (As := [.ref p16]) (rest := [.ref p14]) XT hM hl rfl b12 pcy_X2_known q907 q909 qs19 (xX2_known g35) rfl (Nat.le_of_ble_eq_true rfl) (Nat.le_of_ble_eq_true rfl) rfl dX2_people_315
      refine p_callV_r (ci := 2) (As := [.ref p16]) (rest := [.ref p14]) X hM hl rfl b12 pcy_X2_known q907 q909 qs19 (kX2_known g34) rfl (Nat.le_of_ble_eq_true rfl) (Nat.le_of_ble_eq_true rfl) rfl dX2_people_315 (fun H locs hM => ?_)
      obtain ⟨b13, hf⟩ := ckc_open hf
      obtain ⟨q1, h20, g36, hf⟩ := bnd_open hf
      refine p_callF_r (As := [.int r8]) (rest := []) X hM hl b13 pcy_J2_get (fun U hK => hK.1.2.2.1.2.1) ⟨by decide +kernel, by decide +kernel, by decide +kernel⟩ q912 q763 q761 (kJ2_get g36) rfl (Nat.le_of_ble_eq_true rfl) (Nat.le_of_ble_eq_true rfl) rfl dX2_people_318 (fun H locs hM => ?_)
      obtain ⟨n1, e1, hfq⟩ := qS_open hf
      clear hf; subst e1; have hf := hfq; clear hfq
      obtain ⟨b15, hf⟩ := ckc_open hf
      refine p_castS X hM (ci := 8) rfl q883 b15 dX2_people_323 ?_
      refine g_astore (lv' := [(7, .ref n1), (0, .ref a0), (1, .ref a1), (2, .int a2), (4, .int x1)]) G dX2_people_326 hl (Nat.le_of_ble_eq_true rfl) rfl (fun ls hl => ?_)
      refine g_aload_n G dX2_people_328 rfl (lv_at hl 1 rfl) ?_
      refine g_aload_n G dX2_people_329 rfl (lv_at hl 1 rfl) ?_
      obtain ⟨p17, g37, hf⟩ := vA_open hf
      refine p_get (k := 6) X hM pc_2 (by decide) q355 rfl g37 dX2_people_330 ?_
      obtain ⟨p18, g38, hf⟩ := vA_open hf
      refine p_getN (k := 4) X hM pc_1 (by decide) q239 rfl g38 dX2_people_333 ?_
      obtain ⟨b16, hf⟩ := ckc_open hf
      refine bnx_split hf (fun g40 => ?_) (fun r9 h21 g39 hf => ?_)
      · exact p_callT (ci := 2) (As := [.ref p18]) (rest := []) XT hM hl rfl b16 pcy_X2_known q907 q909 qs19 (xX2_known g40) rfl (Nat.le_of_ble_eq_true rfl) (Nat.le_of_ble_eq_true rfl) rfl dX2_people_336
      refine p_callV_r (ci := 2) (As := [.ref p18]) (rest := []) X hM hl rfl b16 pcy_X2_known q907 q909 qs19 (kX2_known g39) rfl (Nat.le_of_ble_eq_true rfl) (Nat.le_of_ble_eq_true rfl) rfl dX2_people_336 (fun H locs hM => ?_)
      refine g_istore (lv' := [(8, .int r9), (7, .ref n1), (0, .ref a0), (1, .ref a1), (2, .int a2), (4, .int x1)]) G dX2_people_339 hl (Nat.le_of_ble_eq_true rfl) rfl (fun ls hl => ?_)
      refine g_aload G dX2_people_341 (lv_at hl 1 rfl) ?_
      obtain ⟨v1, g41, hf⟩ := vI_open hf
      refine p_getN (k := 3) X hM pc_8 (by decide) q895 rfl g41 dX2_people_343 ?_
      refine g_aload G dX2_people_346 (lv_at hl 1 rfl) ?_
      obtain ⟨v2, g42, hf⟩ := vI_open hf
      refine p_getN (k := 4) X hM pc_8 (by decide) q897 rfl g42 dX2_people_348 ?_
      refine g_ior G dX2_people_351 ?_
      refine g_iload G dX2_people_352 (lv_at hl 0 rfl) ?_
      obtain ⟨r10, h22, g43, hf⟩ := bnd_open hf
      refine p_callSN_r (As := [.int (v1 ||| v2), .int r9]) (rest := []) X hM hl pcy_X0_has q913 q914 (kX0_has g43) rfl (Nat.le_of_ble_eq_true rfl) (Nat.le_of_ble_eq_true rfl) rfl dX2_people_354 (fun H locs hM => ?_)
      refine g_if_eq (tgt := 370) G dX2_people_357 rfl (fun c6 => ?_) (fun c6 => ?_)
      · have hf := it_pos c6 hf
        refine g_aload_n G dX2_people_370 rfl (lv_at hl 3 rfl) ?_
        refine p_ldcs X (i := 2) rfl dX2_people_371 ?_
        obtain ⟨b17, hf⟩ := ckc_open hf
        obtain ⟨r11, h23, g44, hf⟩ := bnd_open hf
        refine p_callV_r (ci := 22) (As := [va_rf (some (dK D 2))]) (rest := []) X hM hl rfl b17 pcy_J6_equals q709 q710 q711 (kJ6_equals g44) rfl (Nat.le_of_ble_eq_true rfl) (Nat.le_of_ble_eq_true rfl) rfl dX2_people_373 (fun H locs hM => ?_)
        refine g_if_eq (tgt := 396) G dX2_people_376 rfl (fun c7 => ?_) (fun c7 => ?_)
        · have hf := it_pos c7 hf
          refine g_aload G dX2_people_396 (lv_at hl 1 rfl) ?_
          refine g_dup G dX2_people_398 rfl ?_
          obtain ⟨v3, g45, hf⟩ := vI_open hf
          refine p_getN (k := 4) X hM pc_8 (by decide) q897 rfl g45 dX2_people_399 ?_
          refine g_iconst (v := 1) G dX2_people_402 rfl ?_
          refine g_iload G dX2_people_403 (lv_at hl 0 rfl) ?_
          refine g_ishl G dX2_people_405 ?_
          refine g_ior G dX2_people_406 ?_
          obtain ⟨h24, g46, hf⟩ := bnv_open hf
          refine p_putN (k := 4) X hM pc_8 (by decide) q897 rfl rfl rfl rfl g46 dX2_people_407 (fun H locs hM => ?_)
          refine g_iconst (v := 1) G dX2_people_410 rfl ?_
          exact absurd hf (by intro z; cases z)
        · have hf := it_neg c7 hf
          refine g_aload G dX2_people_379 (lv_at hl 1 rfl) ?_
          refine g_dup G dX2_people_381 rfl ?_
          obtain ⟨v4, g47, hf⟩ := vI_open hf
          refine p_getN (k := 3) X hM pc_8 (by decide) q895 rfl g47 dX2_people_382 ?_
          refine g_iconst (v := 1) G dX2_people_385 rfl ?_
          refine g_iload G dX2_people_386 (lv_at hl 0 rfl) ?_
          refine g_ishl G dX2_people_388 ?_
          refine g_ior G dX2_people_389 ?_
          obtain ⟨h25, g48, hf⟩ := bnv_open hf
          refine p_putN (k := 3) X hM pc_8 (by decide) q895 rfl rfl rfl rfl g48 dX2_people_390 (fun H locs hM => ?_)
          refine g_goto (tgt := 410) G dX2_people_393 rfl ?_
          refine g_iconst (v := 1) G dX2_people_410 rfl ?_
          exact absurd hf (by intro z; cases z)
      · have hf := it_neg c6 hf
        refine g_aload_n G dX2_people_360 rfl (lv_at hl 2 rfl) ?_
        refine g_iconst (v := 3) G dX2_people_361 rfl ?_
        refine g_aload_n G dX2_people_362 rfl (lv_at hl 2 rfl) ?_
        obtain ⟨v5, g49, hf⟩ := vI_open hf
        refine p_get (k := 3) X hM pc_2 (by decide) q352 rfl g49 dX2_people_363 ?_
        obtain ⟨b18, hf⟩ := ckc_open hf
        obtain ⟨p19, h26, g50, hf⟩ := bnd_open hf
        refine p_callV_r (ci := 2) (As := [.int 3, .int v5]) (rest := []) X hM hl rfl b18 pcy_X2_wrong q555 q557 qs7 (kX2_wrong g50) rfl (Nat.le_of_ble_eq_true rfl) (Nat.le_of_ble_eq_true rfl) rfl dX2_people_366 (fun H locs hM => ?_)
        cases hf
        exact p_athrow XT hM dX2_people_369
    have hf := it_neg c5 hf
    by_cases c8 : x1 = 3
    · have hf := it_pos c8 hf
      refine g_tableIn (off := 166) (tgt := 300) G dX2_people_134 (by rw [c8]; decide) (by rw [c8]; decide) (by rw [c8]; rfl) rfl ?_
      refine g_aload_n G dX2_people_300 rfl (lv_at hl 0 rfl) ?_
      obtain ⟨p20, g51, hf⟩ := vA_open hf
      refine p_get (k := 6) X hM pc_2 (by decide) q355 rfl g51 dX2_people_301 ?_
      obtain ⟨p21, g52, hf⟩ := vA_open hf
      refine p_getN (k := 5) X hM pc_1 (by decide) q243 rfl g52 dX2_people_304 ?_
      refine g_aload_n G dX2_people_307 rfl (lv_at hl 0 rfl) ?_
      refine g_aload_n G dX2_people_308 rfl (lv_at hl 0 rfl) ?_
      obtain ⟨p22, g53, hf⟩ := vA_open hf
      refine p_get (k := 6) X hM pc_2 (by decide) q355 rfl g53 dX2_people_309 ?_
      obtain ⟨p23, g54, hf⟩ := vA_open hf
      refine p_getN (k := 5) X hM pc_1 (by decide) q243 rfl g54 dX2_people_312 ?_
      obtain ⟨b19, hf⟩ := ckc_open hf
      refine bnx_split hf (fun g56 => ?_) (fun r12 h27 g55 hf => ?_)
      · exact p_callT (ci := 2) (As := [.ref p23]) (rest := [.ref p21]) XT hM hl rfl b19 pcy_X2_known q907 q909 qs19 (xX2_known g56) rfl (Nat.le_of_ble_eq_true rfl) (Nat.le_of_ble_eq_true rfl) rfl dX2_people_315
      refine p_callV_r (ci := 2) (As := [.ref p23]) (rest := [.ref p21]) X hM hl rfl b19 pcy_X2_known q907 q909 qs19 (kX2_known g55) rfl (Nat.le_of_ble_eq_true rfl) (Nat.le_of_ble_eq_true rfl) rfl dX2_people_315 (fun H locs hM => ?_)
      obtain ⟨b20, hf⟩ := ckc_open hf
      obtain ⟨q2, h28, g57, hf⟩ := bnd_open hf
      refine p_callF_r (As := [.int r12]) (rest := []) X hM hl b20 pcy_J2_get (fun U hK => hK.1.2.2.1.2.1) ⟨by decide +kernel, by decide +kernel, by decide +kernel⟩ q912 q763 q761 (kJ2_get g57) rfl (Nat.le_of_ble_eq_true rfl) (Nat.le_of_ble_eq_true rfl) rfl dX2_people_318 (fun H locs hM => ?_)
      obtain ⟨n2, e2, hfq⟩ := qS_open hf
      clear hf; subst e2; have hf := hfq; clear hfq
      obtain ⟨b22, hf⟩ := ckc_open hf
      refine p_castS X hM (ci := 8) rfl q883 b22 dX2_people_323 ?_
      refine g_astore (lv' := [(7, .ref n2), (0, .ref a0), (1, .ref a1), (2, .int a2), (4, .int x1)]) G dX2_people_326 hl (Nat.le_of_ble_eq_true rfl) rfl (fun ls hl => ?_)
      refine g_aload_n G dX2_people_328 rfl (lv_at hl 1 rfl) ?_
      refine g_aload_n G dX2_people_329 rfl (lv_at hl 1 rfl) ?_
      obtain ⟨p24, g58, hf⟩ := vA_open hf
      refine p_get (k := 6) X hM pc_2 (by decide) q355 rfl g58 dX2_people_330 ?_
      obtain ⟨p25, g59, hf⟩ := vA_open hf
      refine p_getN (k := 4) X hM pc_1 (by decide) q239 rfl g59 dX2_people_333 ?_
      obtain ⟨b23, hf⟩ := ckc_open hf
      refine bnx_split hf (fun g61 => ?_) (fun r13 h29 g60 hf => ?_)
      · exact p_callT (ci := 2) (As := [.ref p25]) (rest := []) XT hM hl rfl b23 pcy_X2_known q907 q909 qs19 (xX2_known g61) rfl (Nat.le_of_ble_eq_true rfl) (Nat.le_of_ble_eq_true rfl) rfl dX2_people_336
      refine p_callV_r (ci := 2) (As := [.ref p25]) (rest := []) X hM hl rfl b23 pcy_X2_known q907 q909 qs19 (kX2_known g60) rfl (Nat.le_of_ble_eq_true rfl) (Nat.le_of_ble_eq_true rfl) rfl dX2_people_336 (fun H locs hM => ?_)
      refine g_istore (lv' := [(8, .int r13), (7, .ref n2), (0, .ref a0), (1, .ref a1), (2, .int a2), (4, .int x1)]) G dX2_people_339 hl (Nat.le_of_ble_eq_true rfl) rfl (fun ls hl => ?_)
      refine g_aload G dX2_people_341 (lv_at hl 1 rfl) ?_
      obtain ⟨v6, g62, hf⟩ := vI_open hf
      refine p_getN (k := 3) X hM pc_8 (by decide) q895 rfl g62 dX2_people_343 ?_
      refine g_aload G dX2_people_346 (lv_at hl 1 rfl) ?_
      obtain ⟨v7, g63, hf⟩ := vI_open hf
      refine p_getN (k := 4) X hM pc_8 (by decide) q897 rfl g63 dX2_people_348 ?_
      refine g_ior G dX2_people_351 ?_
      refine g_iload G dX2_people_352 (lv_at hl 0 rfl) ?_
      obtain ⟨r14, h30, g64, hf⟩ := bnd_open hf
      refine p_callSN_r (As := [.int (v6 ||| v7), .int r13]) (rest := []) X hM hl pcy_X0_has q913 q914 (kX0_has g64) rfl (Nat.le_of_ble_eq_true rfl) (Nat.le_of_ble_eq_true rfl) rfl dX2_people_354 (fun H locs hM => ?_)
      refine g_if_eq (tgt := 370) G dX2_people_357 rfl (fun c9 => ?_) (fun c9 => ?_)
      · have hf := it_pos c9 hf
        refine g_aload_n G dX2_people_370 rfl (lv_at hl 3 rfl) ?_
        refine p_ldcs X (i := 2) rfl dX2_people_371 ?_
        obtain ⟨b24, hf⟩ := ckc_open hf
        obtain ⟨r15, h31, g65, hf⟩ := bnd_open hf
        refine p_callV_r (ci := 22) (As := [va_rf (some (dK D 2))]) (rest := []) X hM hl rfl b24 pcy_J6_equals q709 q710 q711 (kJ6_equals g65) rfl (Nat.le_of_ble_eq_true rfl) (Nat.le_of_ble_eq_true rfl) rfl dX2_people_373 (fun H locs hM => ?_)
        refine g_if_eq (tgt := 396) G dX2_people_376 rfl (fun c10 => ?_) (fun c10 => ?_)
        · have hf := it_pos c10 hf
          refine g_aload G dX2_people_396 (lv_at hl 1 rfl) ?_
          refine g_dup G dX2_people_398 rfl ?_
          obtain ⟨v8, g66, hf⟩ := vI_open hf
          refine p_getN (k := 4) X hM pc_8 (by decide) q897 rfl g66 dX2_people_399 ?_
          refine g_iconst (v := 1) G dX2_people_402 rfl ?_
          refine g_iload G dX2_people_403 (lv_at hl 0 rfl) ?_
          refine g_ishl G dX2_people_405 ?_
          refine g_ior G dX2_people_406 ?_
          obtain ⟨h32, g67, hf⟩ := bnv_open hf
          refine p_putN (k := 4) X hM pc_8 (by decide) q897 rfl rfl rfl rfl g67 dX2_people_407 (fun H locs hM => ?_)
          refine g_iconst (v := 1) G dX2_people_410 rfl ?_
          exact absurd hf (by intro z; cases z)
        · have hf := it_neg c10 hf
          refine g_aload G dX2_people_379 (lv_at hl 1 rfl) ?_
          refine g_dup G dX2_people_381 rfl ?_
          obtain ⟨v9, g68, hf⟩ := vI_open hf
          refine p_getN (k := 3) X hM pc_8 (by decide) q895 rfl g68 dX2_people_382 ?_
          refine g_iconst (v := 1) G dX2_people_385 rfl ?_
          refine g_iload G dX2_people_386 (lv_at hl 0 rfl) ?_
          refine g_ishl G dX2_people_388 ?_
          refine g_ior G dX2_people_389 ?_
          obtain ⟨h33, g69, hf⟩ := bnv_open hf
          refine p_putN (k := 3) X hM pc_8 (by decide) q895 rfl rfl rfl rfl g69 dX2_people_390 (fun H locs hM => ?_)
          refine g_goto (tgt := 410) G dX2_people_393 rfl ?_
          refine g_iconst (v := 1) G dX2_people_410 rfl ?_
          exact absurd hf (by intro z; cases z)
      · have hf := it_neg c9 hf
        refine g_aload_n G dX2_people_360 rfl (lv_at hl 2 rfl) ?_
        refine g_iconst (v := 3) G dX2_people_361 rfl ?_
        refine g_aload_n G dX2_people_362 rfl (lv_at hl 2 rfl) ?_
        obtain ⟨v10, g70, hf⟩ := vI_open hf
        refine p_get (k := 3) X hM pc_2 (by decide) q352 rfl g70 dX2_people_363 ?_
        obtain ⟨b25, hf⟩ := ckc_open hf
        obtain ⟨p26, h34, g71, hf⟩ := bnd_open hf
        refine p_callV_r (ci := 2) (As := [.int 3, .int v10]) (rest := []) X hM hl rfl b25 pcy_X2_wrong q555 q557 qs7 (kX2_wrong g71) rfl (Nat.le_of_ble_eq_true rfl) (Nat.le_of_ble_eq_true rfl) rfl dX2_people_366 (fun H locs hM => ?_)
        cases hf
        exact p_athrow XT hM dX2_people_369
    have hf := it_neg c8 hf
    by_cases c11 : x1 = 4
    · have hf := it_pos c11 hf
      refine g_tableIn (off := 278) (tgt := 412) G dX2_people_134 (by rw [c11]; decide) (by rw [c11]; decide) (by rw [c11]; rfl) rfl ?_
      refine g_aload_n G dX2_people_412 rfl (lv_at hl 0 rfl) ?_
      refine g_aload_n G dX2_people_413 rfl (lv_at hl 0 rfl) ?_
      obtain ⟨p27, g72, hf⟩ := vA_open hf
      refine p_get (k := 6) X hM pc_2 (by decide) q355 rfl g72 dX2_people_414 ?_
      obtain ⟨p28, g73, hf⟩ := vA_open hf
      refine p_getN (k := 5) X hM pc_1 (by decide) q243 rfl g73 dX2_people_417 ?_
      obtain ⟨b26, hf⟩ := ckc_open hf
      refine bnx_split hf (fun g75 => ?_) (fun r16 h35 g74 hf => ?_)
      · exact p_callT (ci := 2) (As := [.ref p28]) (rest := []) XT hM hl rfl b26 pcy_X2_known q907 q909 qs19 (xX2_known g75) rfl (Nat.le_of_ble_eq_true rfl) (Nat.le_of_ble_eq_true rfl) rfl dX2_people_420
      refine p_callV_r (ci := 2) (As := [.ref p28]) (rest := []) X hM hl rfl b26 pcy_X2_known q907 q909 qs19 (kX2_known g74) rfl (Nat.le_of_ble_eq_true rfl) (Nat.le_of_ble_eq_true rfl) rfl dX2_people_420 (fun H locs hM => ?_)
      refine g_istore (lv' := [(9, .int r16), (0, .ref a0), (1, .ref a1), (2, .int a2), (4, .int x1)]) G dX2_people_423 hl (Nat.le_of_ble_eq_true rfl) rfl (fun ls hl => ?_)
      refine g_aload_n G dX2_people_425 rfl (lv_at hl 1 rfl) ?_
      obtain ⟨p29, g76, hf⟩ := vA_open hf
      refine p_get (k := 6) X hM pc_2 (by decide) q355 rfl g76 dX2_people_426 ?_
      obtain ⟨p30, g77, hf⟩ := vA_open hf
      refine p_getN (k := 5) X hM pc_1 (by decide) q243 rfl g77 dX2_people_429 ?_
      refine g_iload G dX2_people_432 (lv_at hl 0 rfl) ?_
      obtain ⟨b27, hf⟩ := ckc_open hf
      obtain ⟨q3, h36, g78, hf⟩ := bnd_open hf
      refine p_callF_r (As := [.int r16]) (rest := []) X hM hl b27 pcy_J2_get (fun U hK => hK.1.2.2.1.2.1) ⟨by decide +kernel, by decide +kernel, by decide +kernel⟩ q912 q763 q761 (kJ2_get g78) rfl (Nat.le_of_ble_eq_true rfl) (Nat.le_of_ble_eq_true rfl) rfl dX2_people_434 (fun H locs hM => ?_)
      obtain ⟨n3, e3, hfq⟩ := qS_open hf
      clear hf; subst e3; have hf := hfq; clear hfq
      obtain ⟨b29, hf⟩ := ckc_open hf
      refine p_castS X hM (ci := 8) rfl q883 b29 dX2_people_439 ?_
      obtain ⟨v11, g79, hf⟩ := vI_open hf
      refine p_getN (k := 2) X hM pc_8 (by decide) q893 rfl g79 dX2_people_442 ?_
      refine g_iconst (v := (-1)) G dX2_people_445 rfl ?_
      refine g_icmp_eq (tgt := 459) G dX2_people_446 rfl (fun c12 => ?_) (fun c12 => ?_)
      · have hf := it_pos c12 hf
        refine g_aload_n G dX2_people_459 rfl (lv_at hl 1 rfl) ?_
        refine p_ldcs X (i := 7) rfl dX2_people_460 ?_
        obtain ⟨b30, hf⟩ := ckc_open hf
        refine bnx_split hf (fun g81 => ?_) (fun u3 h37 g80 hf => ?_)
        · exact p_callT (ci := 2) (As := [.ref (dK D 7)]) (rest := []) XT hM hl rfl b30 pcy_X2_word_2 q785 q787 qs14 (xX2_word_2 g81) rfl (Nat.le_of_ble_eq_true rfl) (Nat.le_of_ble_eq_true rfl) rfl dX2_people_462
        refine p_callV_v (ci := 2) (As := [.ref (dK D 7)]) (rest := []) X hM hl rfl b30 pcy_X2_word_2 q785 q787 qs14 (kX2_word_2 g80) rfl (Nat.le_of_ble_eq_true rfl) (Nat.le_of_ble_eq_true rfl) rfl dX2_people_462 (fun H locs hM => ?_)
        refine g_aload_n G dX2_people_465 rfl (lv_at hl 1 rfl) ?_
        refine g_aload_n G dX2_people_466 rfl (lv_at hl 1 rfl) ?_
        obtain ⟨p31, g82, hf⟩ := vA_open hf
        refine p_get (k := 6) X hM pc_2 (by decide) q355 rfl g82 dX2_people_467 ?_
        obtain ⟨p32, g83, hf⟩ := vA_open hf
        refine p_getN (k := 5) X hM pc_1 (by decide) q243 rfl g83 dX2_people_470 ?_
        obtain ⟨b31, hf⟩ := ckc_open hf
        refine bnx_split hf (fun g85 => ?_) (fun r17 h38 g84 hf => ?_)
        · exact p_callT (ci := 2) (As := [.ref p32]) (rest := []) XT hM hl rfl b31 pcy_X2_known q907 q909 qs19 (xX2_known g85) rfl (Nat.le_of_ble_eq_true rfl) (Nat.le_of_ble_eq_true rfl) rfl dX2_people_473
        refine p_callV_r (ci := 2) (As := [.ref p32]) (rest := []) X hM hl rfl b31 pcy_X2_known q907 q909 qs19 (kX2_known g84) rfl (Nat.le_of_ble_eq_true rfl) (Nat.le_of_ble_eq_true rfl) rfl dX2_people_473 (fun H locs hM => ?_)
        refine g_istore (lv' := [(10, .int r17), (9, .int r16), (0, .ref a0), (1, .ref a1), (2, .int a2), (4, .int x1)]) G dX2_people_476 hl (Nat.le_of_ble_eq_true rfl) rfl (fun ls hl => ?_)
        refine g_aload_n G dX2_people_478 rfl (lv_at hl 2 rfl) ?_
        obtain ⟨p33, g86, hf⟩ := vA_open hf
        refine p_get (k := 6) X hM pc_2 (by decide) q355 rfl g86 dX2_people_479 ?_
        refine g_iload G dX2_people_482 (lv_at hl 0 rfl) ?_
        refine g_iload G dX2_people_484 (lv_at hl 1 rfl) ?_
        obtain ⟨b32, hf⟩ := ckc_open hf
        obtain ⟨r18, h39, g87, hf⟩ := bnd_open hf
        refine p_callV_r (ci := 1) (As := [.int r17, .int r16]) (rest := []) X hM hl rfl b32 pcy_X1_isBy q917 q918 q919 (kX1_isBy g87) rfl (Nat.le_of_ble_eq_true rfl) (Nat.le_of_ble_eq_true rfl) rfl dX2_people_486 (fun H locs hM => ?_)
        refine g_if_eq (tgt := 502) G dX2_people_489 rfl (fun c13 => ?_) (fun c13 => ?_)
        · have hf := it_pos c13 hf
          refine g_aload_n G dX2_people_502 rfl (lv_at hl 2 rfl) ?_
          obtain ⟨p34, g88, hf⟩ := vA_open hf
          refine p_get (k := 6) X hM pc_2 (by decide) q355 rfl g88 dX2_people_503 ?_
          obtain ⟨p35, g89, hf⟩ := vA_open hf
          refine p_getN (k := 5) X hM pc_1 (by decide) q243 rfl g89 dX2_people_506 ?_
          refine g_iload G dX2_people_509 (lv_at hl 1 rfl) ?_
          obtain ⟨b33, hf⟩ := ckc_open hf
          obtain ⟨q4, h40, g90, hf⟩ := bnd_open hf
          refine p_callF_r (As := [.int r16]) (rest := []) X hM hl b33 pcy_J2_get (fun U hK => hK.1.2.2.1.2.1) ⟨by decide +kernel, by decide +kernel, by decide +kernel⟩ q912 q763 q761 (kJ2_get g90) rfl (Nat.le_of_ble_eq_true rfl) (Nat.le_of_ble_eq_true rfl) rfl dX2_people_511 (fun H locs hM => ?_)
          obtain ⟨n4, e4, hfq⟩ := qS_open hf
          clear hf; subst e4; have hf := hfq; clear hfq
          obtain ⟨b35, hf⟩ := ckc_open hf
          refine p_castS X hM (ci := 8) rfl q883 b35 dX2_people_516 ?_
          refine g_iload G dX2_people_519 (lv_at hl 0 rfl) ?_
          obtain ⟨h41, g91, hf⟩ := bnv_open hf
          refine p_putN (k := 2) X hM pc_8 (by decide) q893 rfl rfl rfl rfl g91 dX2_people_521 (fun H locs hM => ?_)
          refine g_iconst (v := 1) G dX2_people_524 rfl ?_
          exact absurd hf (by intro z; cases z)
        · have hf := it_neg c13 hf
          refine g_aload_n G dX2_people_492 rfl (lv_at hl 2 rfl) ?_
          refine g_iconst (v := 3) G dX2_people_493 rfl ?_
          refine g_aload_n G dX2_people_494 rfl (lv_at hl 2 rfl) ?_
          obtain ⟨v12, g92, hf⟩ := vI_open hf
          refine p_get (k := 3) X hM pc_2 (by decide) q352 rfl g92 dX2_people_495 ?_
          obtain ⟨b36, hf⟩ := ckc_open hf
          obtain ⟨p36, h42, g93, hf⟩ := bnd_open hf
          refine p_callV_r (ci := 2) (As := [.int 3, .int v12]) (rest := []) X hM hl rfl b36 pcy_X2_wrong q555 q557 qs7 (kX2_wrong g93) rfl (Nat.le_of_ble_eq_true rfl) (Nat.le_of_ble_eq_true rfl) rfl dX2_people_498 (fun H locs hM => ?_)
          cases hf
          exact p_athrow XT hM dX2_people_501
      · have hf := it_neg c12 hf
        refine g_aload_n G dX2_people_449 rfl (lv_at hl 1 rfl) ?_
        refine g_iconst (v := 3) G dX2_people_450 rfl ?_
        refine g_aload_n G dX2_people_451 rfl (lv_at hl 1 rfl) ?_
        obtain ⟨v13, g94, hf⟩ := vI_open hf
        refine p_get (k := 3) X hM pc_2 (by decide) q352 rfl g94 dX2_people_452 ?_
        obtain ⟨b37, hf⟩ := ckc_open hf
        obtain ⟨p37, h43, g95, hf⟩ := bnd_open hf
        refine p_callV_r (ci := 2) (As := [.int 3, .int v13]) (rest := []) X hM hl rfl b37 pcy_X2_wrong q555 q557 qs7 (kX2_wrong g95) rfl (Nat.le_of_ble_eq_true rfl) (Nat.le_of_ble_eq_true rfl) rfl dX2_people_455 (fun H locs hM => ?_)
        cases hf
        exact p_athrow XT hM dX2_people_458
    have hf := it_neg c11 hf
    refine g_tableOut (tgt := 526) G dX2_people_134 (by have ec1 := lv_neT c1 (a := 0) rfl; have ec3 := lv_neT c3 (a := 1) rfl; have ec5 := lv_neT c5 (a := 2) rfl; have ec8 := lv_neT c8 (a := 3) rfl; have ec11 := lv_neT c11 (a := 4) rfl; omega) rfl ?_
    refine g_iconst (v := 0) G dX2_people_526 rfl ?_
    exact absurd hf (by intro z; cases z)
  by_cases c14 : r1 = (-991716523)
  · have hf := it_pos c14 hf
    refine g_lookup (off := 66) (tgt := 75) G dX2_people_9 (by decide) (by rw [c14]; rfl) rfl ?_
    refine g_aload_n G dX2_people_75 rfl (lv_at hl 1 rfl) ?_
    refine p_ldcs X (i := 1) rfl dX2_people_76 ?_
    obtain ⟨b38, hf⟩ := ckc_open hf
    obtain ⟨r19, h44, g96, hf⟩ := bnd_open hf
    refine p_callV_r (ci := 22) (As := [va_rf (some (dK D 1))]) (rest := []) X hM hl rfl b38 pcy_J6_equals q709 q710 q711 (kJ6_equals g96) rfl (Nat.le_of_ble_eq_true rfl) (Nat.le_of_ble_eq_true rfl) rfl dX2_people_78 (fun H locs hM => ?_)
    refine g_if_eq (tgt := 132) G dX2_people_81 rfl (fun c15 => ?_) (fun c15 => ?_)
    · have hf := it_pos c15 hf
      exact J132 _ _ _ _ hf hM ls (lv_sub hl [2, 3, 4, 0] rfl)
    · have hf := it_neg c15 hf
      refine g_iconst (v := 1) G dX2_people_84 rfl ?_
      refine g_istore (lv' := [(4, .int 1), (3, .ref a1), (0, .ref a0), (1, .ref a1), (2, .int a2)]) G dX2_people_85 hl (Nat.le_of_ble_eq_true rfl) rfl (fun ls hl => ?_)
      refine g_goto (tgt := 132) G dX2_people_87 rfl ?_
      exact J132 _ _ _ _ hf hM ls (lv_sub hl [2, 3, 4, 0] rfl)
  have hf := it_neg c14 hf
  by_cases c16 : r1 = (-880816373)
  · have hf := it_pos c16 hf
    refine g_lookup (off := 111) (tgt := 120) G dX2_people_9 (by decide) (by rw [c16]; rfl) rfl ?_
    refine g_aload_n G dX2_people_120 rfl (lv_at hl 1 rfl) ?_
    refine p_ldcs X (i := 4) rfl dX2_people_121 ?_
    obtain ⟨b39, hf⟩ := ckc_open hf
    obtain ⟨r20, h45, g97, hf⟩ := bnd_open hf
    refine p_callV_r (ci := 22) (As := [va_rf (some (dK D 4))]) (rest := []) X hM hl rfl b39 pcy_J6_equals q709 q710 q711 (kJ6_equals g97) rfl (Nat.le_of_ble_eq_true rfl) (Nat.le_of_ble_eq_true rfl) rfl dX2_people_123 (fun H locs hM => ?_)
    refine g_if_eq (tgt := 132) G dX2_people_126 rfl (fun c17 => ?_) (fun c17 => ?_)
    · have hf := it_pos c17 hf
      exact J132 _ _ _ _ hf hM ls (lv_sub hl [2, 3, 4, 0] rfl)
    · have hf := it_neg c17 hf
      refine g_iconst (v := 4) G dX2_people_129 rfl ?_
      refine g_istore (lv' := [(4, .int 4), (3, .ref a1), (0, .ref a0), (1, .ref a1), (2, .int a2)]) G dX2_people_130 hl (Nat.le_of_ble_eq_true rfl) rfl (fun ls hl => ?_)
      exact J132 _ _ _ _ hf hM ls (lv_sub hl [2, 3, 4, 0] rfl)
  have hf := it_neg c16 hf
  by_cases c18 : r1 = 3122094
  · have hf := it_pos c18 hf
    refine g_lookup (off := 96) (tgt := 105) G dX2_people_9 (by decide) (by rw [c18]; rfl) rfl ?_
    refine g_aload_n G dX2_people_105 rfl (lv_at hl 1 rfl) ?_
    refine p_ldcs X (i := 3) rfl dX2_people_106 ?_
    obtain ⟨b40, hf⟩ := ckc_open hf
    obtain ⟨r21, h46, g98, hf⟩ := bnd_open hf
    refine p_callV_r (ci := 22) (As := [va_rf (some (dK D 3))]) (rest := []) X hM hl rfl b40 pcy_J6_equals q709 q710 q711 (kJ6_equals g98) rfl (Nat.le_of_ble_eq_true rfl) (Nat.le_of_ble_eq_true rfl) rfl dX2_people_108 (fun H locs hM => ?_)
    refine g_if_eq (tgt := 132) G dX2_people_111 rfl (fun c19 => ?_) (fun c19 => ?_)
    · have hf := it_pos c19 hf
      exact J132 _ _ _ _ hf hM ls (lv_sub hl [2, 3, 4, 0] rfl)
    · have hf := it_neg c19 hf
      refine g_iconst (v := 3) G dX2_people_114 rfl ?_
      refine g_istore (lv' := [(4, .int 3), (3, .ref a1), (0, .ref a0), (1, .ref a1), (2, .int a2)]) G dX2_people_115 hl (Nat.le_of_ble_eq_true rfl) rfl (fun ls hl => ?_)
      refine g_goto (tgt := 132) G dX2_people_117 rfl ?_
      exact J132 _ _ _ _ hf hM ls (lv_sub hl [2, 3, 4, 0] rfl)
  have hf := it_neg c18 hf
  by_cases c20 : r1 = 3135084
  · have hf := it_pos c20 hf
    refine g_lookup (off := 51) (tgt := 60) G dX2_people_9 (by decide) (by rw [c20]; rfl) rfl ?_
    refine g_aload_n G dX2_people_60 rfl (lv_at hl 1 rfl) ?_
    refine p_ldcs X (i := 0) rfl dX2_people_61 ?_
    obtain ⟨b41, hf⟩ := ckc_open hf
    obtain ⟨r22, h47, g99, hf⟩ := bnd_open hf
    refine p_callV_r (ci := 22) (As := [va_rf (some (dK D 0))]) (rest := []) X hM hl rfl b41 pcy_J6_equals q709 q710 q711 (kJ6_equals g99) rfl (Nat.le_of_ble_eq_true rfl) (Nat.le_of_ble_eq_true rfl) rfl dX2_people_63 (fun H locs hM => ?_)
    refine g_if_eq (tgt := 132) G dX2_people_66 rfl (fun c21 => ?_) (fun c21 => ?_)
    · have hf := it_pos c21 hf
      exact J132 _ _ _ _ hf hM ls (lv_sub hl [2, 3, 4, 0] rfl)
    · have hf := it_neg c21 hf
      refine g_iconst (v := 0) G dX2_people_69 rfl ?_
      refine g_istore (lv' := [(4, .int 0), (3, .ref a1), (0, .ref a0), (1, .ref a1), (2, .int a2)]) G dX2_people_70 hl (Nat.le_of_ble_eq_true rfl) rfl (fun ls hl => ?_)
      refine g_goto (tgt := 132) G dX2_people_72 rfl ?_
      exact J132 _ _ _ _ hf hM ls (lv_sub hl [2, 3, 4, 0] rfl)
  have hf := it_neg c20 hf
  by_cases c22 : r1 = 102204232
  · have hf := it_pos c22 hf
    refine g_lookup (off := 81) (tgt := 90) G dX2_people_9 (by decide) (by rw [c22]; rfl) rfl ?_
    refine g_aload_n G dX2_people_90 rfl (lv_at hl 1 rfl) ?_
    refine p_ldcs X (i := 2) rfl dX2_people_91 ?_
    obtain ⟨b42, hf⟩ := ckc_open hf
    obtain ⟨r23, h48, g100, hf⟩ := bnd_open hf
    refine p_callV_r (ci := 22) (As := [va_rf (some (dK D 2))]) (rest := []) X hM hl rfl b42 pcy_J6_equals q709 q710 q711 (kJ6_equals g100) rfl (Nat.le_of_ble_eq_true rfl) (Nat.le_of_ble_eq_true rfl) rfl dX2_people_93 (fun H locs hM => ?_)
    refine g_if_eq (tgt := 132) G dX2_people_96 rfl (fun c23 => ?_) (fun c23 => ?_)
    · have hf := it_pos c23 hf
      exact J132 _ _ _ _ hf hM ls (lv_sub hl [2, 3, 4, 0] rfl)
    · have hf := it_neg c23 hf
      refine g_iconst (v := 2) G dX2_people_99 rfl ?_
      refine g_istore (lv' := [(4, .int 2), (3, .ref a1), (0, .ref a0), (1, .ref a1), (2, .int a2)]) G dX2_people_100 hl (Nat.le_of_ble_eq_true rfl) rfl (fun ls hl => ?_)
      refine g_goto (tgt := 132) G dX2_people_102 rfl ?_
      exact J132 _ _ _ _ hf hM ls (lv_sub hl [2, 3, 4, 0] rfl)
  have hf := it_neg c22 hf
  refine g_lookup (off := 123) (tgt := 132) G dX2_people_9 (by decide) ((lv_osw (k := (-991716523)) c14 (by decide)).trans ((lv_osw (k := (-880816373)) c16 (by decide)).trans ((lv_osw (k := 3122094) c18 (by decide)).trans ((lv_osw (k := 3135084) c20 (by decide)).trans ((lv_osw (k := 102204232) c22 (by decide)).trans rfl))))) rfl ?_
  exact J132 _ _ _ _ hf hM ls (lv_sub hl [2, 3, 4, 0] rfl)
