/-! PART 36.c (printed by dc.py, mkc.py) -/
set_option maxRecDepth 100000
theorem pcy_X2_once : pcY yX2_once cX2_once 4 (Option.some (Jvm.ClassFile.FieldType.object "PupilsPupil$Test")) 3 := ⟨q937, q150, ⟨by decide +kernel, by decide +kernel, by decide +kernel⟩, Nat.le_of_ble_eq_true rfl⟩
noncomputable def fX2_once (D : PD) (cap : Nat × Nat) (a0 : Nat) (a1 : Option Nat) (a2 : Int32) (a3 : Int32) (h : PH) : Option ((Nat ⊕ Nat) × PH) :=
  jn (fun (x1 : Bool) (h1 : PH) =>
    ckc (pCls h1 a0) 2 <|
    bnx (fX2_most a0 x1 a2 h1) fun u1 h2 =>
    bnv (pPut h2 a0 2 5 (.int a3)) fun h3 =>
    ckc (pCls h3 a0) 2 <|
    bnx (vTestT D cap a0 h3) fun p1 h4 =>
    some (.inl p1, h4)) fun j10 =>
  qC a1 (
    j10 false h) fun n1 =>
    j10 true h
set_option maxHeartbeats 1000000 in
theorem kX2_once {l : Launch} {D : PD} {A : Nat → Prop} {cap : Nat × Nat} {a0 : Nat} {a1 : Option Nat} {a2 : Int32} {a3 : Int32} {h h' : PH} {r : Nat} (hf : fX2_once D cap a0 a1 a2 a3 h = some (.inl r, h')) : CMet l D A cap yX2_once cX2_once 4 (Option.some (Jvm.ClassFile.FieldType.object "PupilsPupil$Test")) 149 [.ref a0, va_rf a1, .int a2, .int a3] h h' (some (.ref r)) := by
  unfold fX2_once at hf
  refine p_head (own := RX2) (ini := false) (pn_X2 rfl) rfl (fun q => by cases q) (by simp [lg_sl, cat_q, cat_i, cat_l, cat_r]) (fun m Z cx sx H0 ls X hM hl => ?_)
  have G := X.g
  have hl : lv_has ls 4 [(0, .ref a0), (1, va_rf a1), (2, .int a2), (3, .int a3)] := by simpa [lv_args, cat_q, cat_i, cat_l, cat_r] using hl
  refine g_aload_n G dX2_once_0 rfl (lv_at hl 0 rfl) ?_
  refine g_aload_nQ G dX2_once_1 rfl (lv_at hl 1 rfl) ?_
  obtain ⟨j10, ej10, hf⟩ := jn_open hf
  have J10 : ∀ (x1 : Bool) (h1 : PH) (H : Heap) (locs : List Loc), j10 x1 h1 = some (.inl r, h') → PI D A cap H0 h1 H locs → ∀ ls : Array Slot, lv_has ls 4 [(0, .ref a0), (2, .int a2), (3, .int a3)] → Z H locs (cx H) (sx H) (F0 m 10 ls [.int (bI x1), .ref a0]) := by
    intro x1 h1 H locs hf hM ls hl
    rw [ej10] at hf
    refine g_iload_n G dX2_once_10 rfl (lv_at hl 1 rfl) ?_
    obtain ⟨b1, hf⟩ := ckc_open hf
    obtain ⟨u1, h2, g1, hf⟩ := bnx_ret hf
    refine p_callV_v (ci := 2) (As := [.int (bI x1), .int a2]) (rest := []) X hM hl rfl b1 pcy_X2_most q551 q553 qs6 (kX2_most g1) rfl (Nat.le_of_ble_eq_true rfl) (Nat.le_of_ble_eq_true rfl) rfl dX2_once_11 (fun H locs hM => ?_)
    refine g_aload_n G dX2_once_14 rfl (lv_at hl 0 rfl) ?_
    refine g_iload_n G dX2_once_15 rfl (lv_at hl 2 rfl) ?_
    obtain ⟨h3, g3, hf⟩ := bnv_open hf
    refine p_put (k := 5) X hM pc_2 (by decide) q354 rfl rfl rfl rfl g3 dX2_once_16 (fun H locs hM => ?_)
    refine g_aload_n G dX2_once_19 rfl (lv_at hl 0 rfl) ?_
    obtain ⟨b2, hf⟩ := ckc_open hf
    obtain ⟨p1, h4, g4, hf⟩ := bnx_ret hf
    refine p_callV_r (ci := 2) (As := []) (rest := []) X hM hl rfl b2 pcy_X2_test q938 q940 qs22 (kvTestT g4) rfl (Nat.le_of_ble_eq_true rfl) (Nat.le_of_ble_eq_true rfl) rfl dX2_once_20 (fun H locs hM => ?_)
    cases hf
    exact p_aret X (Or.inl ⟨_, rfl⟩) hM rfl dX2_once_23
  refine g_ifnullQ (tgt := 9) G dX2_once_2 rfl (fun c1 => ?_) (fun n1 c1 => ?_)
  · subst c1
    have hf := qC_none hf
    refine g_iconst (v := 0) G dX2_once_9 rfl ?_
    exact J10 _ _ _ _ hf hM ls (lv_sub hl [0, 2, 3] rfl)
  · subst c1
    have hf := qC_some hf
    refine g_iconst (v := 1) G dX2_once_5 rfl ?_
    refine g_goto (tgt := 10) G dX2_once_6 rfl ?_
    exact J10 _ _ _ _ hf hM ls (lv_sub hl [0, 2, 3] rfl)
set_option maxHeartbeats 1000000 in
theorem xX2_once {l : Launch} {D : PD} {A : Nat → Prop} {cap : Nat × Nat} {a0 : Nat} {a1 : Option Nat} {a2 : Int32} {a3 : Int32} {h h' : PH} {q : Nat} (hf : fX2_once D cap a0 a1 a2 a3 h = some (.inr q, h')) : XMet l D A cap yX2_once cX2_once 4 (Option.some (Jvm.ClassFile.FieldType.object "PupilsPupil$Test")) 149 [.ref a0, va_rf a1, .int a2, .int a3] h h' (q) := by
  unfold fX2_once at hf
  refine p_headT (own := RX2) (ini := false) (pn_X2 rfl) rfl (fun q => by cases q) (by simp [lg_sl, cat_q, cat_i, cat_l, cat_r]) (fun m Z cx sx H0 ls X XT hM hl => ?_)
  have G := X.g
  have hl : lv_has ls 4 [(0, .ref a0), (1, va_rf a1), (2, .int a2), (3, .int a3)] := by simpa [lv_args, cat_q, cat_i, cat_l, cat_r] using hl
  refine g_aload_n G dX2_once_0 rfl (lv_at hl 0 rfl) ?_
  refine g_aload_nQ G dX2_once_1 rfl (lv_at hl 1 rfl) ?_
  obtain ⟨j10, ej10, hf⟩ := jn_open hf
  have J10 : ∀ (x1 : Bool) (h1 : PH) (H : Heap) (locs : List Loc), j10 x1 h1 = some (.inr q, h') → PI D A cap H0 h1 H locs → ∀ ls : Array Slot, lv_has ls 4 [(0, .ref a0), (2, .int a2), (3, .int a3)] → Z H locs (cx H) (sx H) (F0 m 10 ls [.int (bI x1), .ref a0]) := by
    intro x1 h1 H locs hf hM ls hl
    rw [ej10] at hf
    refine g_iload_n G dX2_once_10 rfl (lv_at hl 1 rfl) ?_
    obtain ⟨b1, hf⟩ := ckc_open hf
    refine bnx_split hf (fun g2 => ?_) (fun u1 h2 g1 hf => ?_)
    · exact p_callT (ci := 2) (As := [.int (bI x1), .int a2]) (rest := []) XT hM hl rfl b1 pcy_X2_most q551 q553 qs6 (xX2_most g2) rfl (Nat.le_of_ble_eq_true rfl) (Nat.le_of_ble_eq_true rfl) rfl dX2_once_11
    refine p_callV_v (ci := 2) (As := [.int (bI x1), .int a2]) (rest := []) X hM hl rfl b1 pcy_X2_most q551 q553 qs6 (kX2_most g1) rfl (Nat.le_of_ble_eq_true rfl) (Nat.le_of_ble_eq_true rfl) rfl dX2_once_11 (fun H locs hM => ?_)
    refine g_aload_n G dX2_once_14 rfl (lv_at hl 0 rfl) ?_
    refine g_iload_n G dX2_once_15 rfl (lv_at hl 2 rfl) ?_
    obtain ⟨h3, g3, hf⟩ := bnv_open hf
    refine p_put (k := 5) X hM pc_2 (by decide) q354 rfl rfl rfl rfl g3 dX2_once_16 (fun H locs hM => ?_)
    refine g_aload_n G dX2_once_19 rfl (lv_at hl 0 rfl) ?_
    obtain ⟨b2, hf⟩ := ckc_open hf
    refine bnx_split hf (fun g5 => ?_) (fun p1 h4 g4 hf => ?_)
    · exact p_callT (ci := 2) (As := []) (rest := []) XT hM hl rfl b2 pcy_X2_test q938 q940 qs22 (xvTestT g5) rfl (Nat.le_of_ble_eq_true rfl) (Nat.le_of_ble_eq_true rfl) rfl dX2_once_20
    refine p_callV_r (ci := 2) (As := []) (rest := []) X hM hl rfl b2 pcy_X2_test q938 q940 qs22 (kvTestT g4) rfl (Nat.le_of_ble_eq_true rfl) (Nat.le_of_ble_eq_true rfl) rfl dX2_once_20 (fun H locs hM => ?_)
    exact absurd hf (by intro z; cases z)
  refine g_ifnullQ (tgt := 9) G dX2_once_2 rfl (fun c1 => ?_) (fun n1 c1 => ?_)
  · subst c1
    have hf := qC_none hf
    refine g_iconst (v := 0) G dX2_once_9 rfl ?_
    exact J10 _ _ _ _ hf hM ls (lv_sub hl [0, 2, 3] rfl)
  · subst c1
    have hf := qC_some hf
    refine g_iconst (v := 1) G dX2_once_5 rfl ?_
    refine g_goto (tgt := 10) G dX2_once_6 rfl ?_
    exact J10 _ _ _ _ hf hM ls (lv_sub hl [0, 2, 3] rfl)
theorem pcy_X2_more : pcY yX2_more cX2_more 5 none 2 := ⟨q927, q150, ⟨by decide +kernel, by decide +kernel, by decide +kernel⟩, Nat.le_of_ble_eq_true rfl⟩
noncomputable def fX2_more (D : PD) (cap : Nat × Nat) (a0 : Nat) (a1 : Nat) (a2 : Int32) (h : PH) : Option ((Unit ⊕ Nat) × PH) :=
  ckc (pCls h a1) 22 <|
  bnd (fJ6_hashCode D cap a1 h) fun r1 h1 =>
  jn (fun (x1 : Int32) (h2 : PH) =>
    if x1 = 0 then
      vA (pF h2 a0 2 6) fun p1 =>
      vA (pF h2 a0 2 6) fun p2 =>
      vQ (pF h2 p2 1 6) fun q1 =>
      ckc (pCls h2 a0) 2 <|
      bnx (fX2_once D cap a0 q1 a2 127 h2) fun p3 h3 =>
      bnv (pPut h3 p1 1 6 (.ref p3)) fun h4 =>
      some (.inl (), h4)
    else
      if x1 = 1 then
        vA (pF h2 a0 2 6) fun p4 =>
        vA (pF h2 a0 2 6) fun p5 =>
        vQ (pF h2 p5 1 7) fun q2 =>
        ckc (pCls h2 a0) 2 <|
        bnx (fX2_once D cap a0 q2 a2 127 h2) fun p6 h5 =>
        bnv (pPut h5 p4 1 7 (.ref p6)) fun h6 =>
        some (.inl (), h6)
      else
        if x1 = 2 then
          vA (pF h2 a0 2 6) fun p7 =>
          vA (pF h2 a0 2 6) fun p8 =>
          vQ (pF h2 p8 1 8) fun q3 =>
          ckc (pCls h2 a0) 2 <|
          bnx (fX2_once D cap a0 q3 a2 399 h2) fun p9 h7 =>
          bnv (pPut h7 p7 1 8 (.ref p9)) fun h8 =>
          some (.inl (), h8)
        else
          if x1 = 3 then
            vA (pF h2 a0 2 6) fun p10 =>
            ckc (pCls h2 a0) 2 <|
            bnx (fX2_number_2 a0 0 99 h2) fun r2 h9 =>
            bnv (pPut h9 p10 1 1 (.int r2)) fun h10 =>
            some (.inl (), h10)
          else
            if x1 = 4 then
              vA (pF h2 a0 2 6) fun p11 =>
              ckc (pCls h2 a0) 2 <|
              bnx (fX2_number_2 a0 0 9 h2) fun r3 h11 =>
              bnv (pPut h11 p11 1 2 (.int r3)) fun h12 =>
              some (.inl (), h12)
            else
              if x1 = 5 then
                vA (pF h2 a0 2 6) fun p12 =>
                ckc (pCls h2 a0) 2 <|
                bnx (fX2_number_2 a0 0 100 h2) fun r4 h13 =>
                bnv (pPut h13 p12 1 3 (.int r4)) fun h14 =>
                some (.inl (), h14)
              else
                ckc (pCls h2 a0) 2 <|
                bnd (fX2_wrong a0 1 a2 h2) fun p13 h15 =>
                some (.inr p13, h15)) fun j155 =>
  if r1 = (-1253089405) then
    ckc (pCls h1 a1) 22 <|
    bnd (fJ6_equals D a1 (some (dK D 9)) h1) fun r5 h16 =>
    if (bI r5) = 0 then
      j155 (-1) h16
    else
      j155 1 h16
  else
    if r1 = 104361 then
      ckc (pCls h1 a1) 22 <|
      bnd (fJ6_equals D a1 (some (dK D 13)) h1) fun r6 h17 =>
      if (bI r6) = 0 then
        j155 (-1) h17
      else
        j155 5 h17
    else
      if r1 = 3433489 then
        ckc (pCls h1 a1) 22 <|
        bnd (fJ6_equals D a1 (some (dK D 11)) h1) fun r7 h18 =>
        if (bI r7) = 0 then
          j155 (-1) h18
        else
          j155 3 h18
      else
        if r1 = 3530581 then
          ckc (pCls h1 a1) 22 <|
          bnd (fJ6_equals D a1 (some (dK D 10)) h1) fun r8 h19 =>
          if (bI r8) = 0 then
            j155 (-1) h19
          else
            j155 2 h19
        else
          if r1 = 110124236 then
            ckc (pCls h1 a1) 22 <|
            bnd (fJ6_equals D a1 (some (dK D 8)) h1) fun r9 h20 =>
            if (bI r9) = 0 then
              j155 (-1) h20
            else
              j155 0 h20
          else
            if r1 = 110628761 then
              ckc (pCls h1 a1) 22 <|
              bnd (fJ6_equals D a1 (some (dK D 12)) h1) fun r10 h21 =>
              if (bI r10) = 0 then
                j155 (-1) h21
              else
                j155 4 h21
            else
              j155 (-1) h1
set_option maxHeartbeats 1000000 in
theorem kX2_more {l : Launch} {D : PD} {A : Nat → Prop} {cap : Nat × Nat} {a0 : Nat} {a1 : Nat} {a2 : Int32} {h h' : PH} (hf : fX2_more D cap a0 a1 a2 h = some (.inl (), h')) : CMet l D A cap yX2_more cX2_more 5 none 150 [.ref a0, .ref a1, .int a2] h h' (none) := by
  unfold fX2_more at hf
  refine p_head (own := RX2) (ini := false) (pn_X2 rfl) rfl (fun q => by cases q) (Nat.le_of_ble_eq_true rfl) (fun m Z cx sx H0 ls X hM hl => ?_)
  have G := X.g
  have hl : lv_has ls 5 [(0, .ref a0), (1, .ref a1), (2, .int a2)] := hl
  refine g_aload_n G dX2_more_0 rfl (lv_at hl 1 rfl) ?_
  refine g_astore_n (i := 3) (lv' := [(3, .ref a1), (0, .ref a0), (1, .ref a1), (2, .int a2)]) G dX2_more_1 rfl hl (Nat.le_of_ble_eq_true rfl) rfl (fun ls hl => ?_)
  refine g_iconst (v := (-1)) G dX2_more_2 rfl ?_
  refine g_istore (lv' := [(4, .int (-1)), (3, .ref a1), (0, .ref a0), (1, .ref a1), (2, .int a2)]) G dX2_more_3 hl (Nat.le_of_ble_eq_true rfl) rfl (fun ls hl => ?_)
  refine g_aload_n G dX2_more_5 rfl (lv_at hl 1 rfl) ?_
  obtain ⟨b1, hf⟩ := ckc_open hf
  obtain ⟨r1, h1, g1, hf⟩ := bnd_open hf
  refine p_callV_r (ci := 22) (As := []) (rest := []) X hM hl rfl b1 pcy_J6_hashCode q655 q656 q657 (kJ6_hashCode g1) rfl (Nat.le_of_ble_eq_true rfl) (Nat.le_of_ble_eq_true rfl) rfl dX2_more_6 (fun H locs hM => ?_)
  obtain ⟨j155, ej155, hf⟩ := jn_open hf
  have J155 : ∀ (x1 : Int32) (h2 : PH) (H : Heap) (locs : List Loc), j155 x1 h2 = some (.inl (), h') → PI D A cap H0 h2 H locs → ∀ ls : Array Slot, lv_has ls 5 [(0, .ref a0), (2, .int a2), (4, .int x1)] → Z H locs (cx H) (sx H) (F0 m 155 ls []) := by
    intro x1 h2 H locs hf hM ls hl
    rw [ej155] at hf
    refine g_iload G dX2_more_155 (lv_at hl 2 rfl) ?_
    by_cases c1 : x1 = 0
    · have hf := it_pos c1 hf
      refine g_tableIn (off := 39) (tgt := 196) G dX2_more_157 (by rw [c1]; decide) (by rw [c1]; decide) (by rw [c1]; rfl) rfl ?_
      refine g_aload_n G dX2_more_196 rfl (lv_at hl 0 rfl) ?_
      obtain ⟨p1, g2, hf⟩ := vA_open hf
      refine p_get (k := 6) X hM pc_2 (by decide) q355 rfl g2 dX2_more_197 ?_
      refine g_aload_n G dX2_more_200 rfl (lv_at hl 0 rfl) ?_
      refine g_aload_n G dX2_more_201 rfl (lv_at hl 0 rfl) ?_
      obtain ⟨p2, g3, hf⟩ := vA_open hf
      refine p_get (k := 6) X hM pc_2 (by decide) q355 rfl g3 dX2_more_202 ?_
      obtain ⟨q1, g4, hf⟩ := vQ_open hf
      refine p_getN (k := 6) X hM pc_1 (by decide) q246 rfl g4 dX2_more_205 ?_
      refine g_iload_n G dX2_more_208 rfl (lv_at hl 1 rfl) ?_
      refine g_bipush (v := 127) G dX2_more_209 rfl ?_
      obtain ⟨b2, hf⟩ := ckc_open hf
      obtain ⟨p3, h3, g5, hf⟩ := bnx_ret hf
      refine p_callV_r (ci := 2) (As := [va_rf q1, .int a2, .int 127]) (rest := [.ref p1]) X hM hl rfl b2 pcy_X2_once q934 q936 qs21 (kX2_once g5) rfl (Nat.le_of_ble_eq_true rfl) (Nat.le_of_ble_eq_true rfl) rfl dX2_more_211 (fun H locs hM => ?_)
      obtain ⟨h4, g7, hf⟩ := bnv_open hf
      refine p_putN (k := 6) X hM pc_1 (by decide) q246 rfl rfl rfl rfl g7 dX2_more_214 (fun H locs hM => ?_)
      refine g_goto (tgt := 327) G dX2_more_217 rfl ?_
      cases hf
      exact p_vret X hM rfl dX2_more_327
    have hf := it_neg c1 hf
    by_cases c2 : x1 = 1
    · have hf := it_pos c2 hf
      refine g_tableIn (off := 63) (tgt := 220) G dX2_more_157 (by rw [c2]; decide) (by rw [c2]; decide) (by rw [c2]; rfl) rfl ?_
      refine g_aload_n G dX2_more_220 rfl (lv_at hl 0 rfl) ?_
      obtain ⟨p4, g8, hf⟩ := vA_open hf
      refine p_get (k := 6) X hM pc_2 (by decide) q355 rfl g8 dX2_more_221 ?_
      refine g_aload_n G dX2_more_224 rfl (lv_at hl 0 rfl) ?_
      refine g_aload_n G dX2_more_225 rfl (lv_at hl 0 rfl) ?_
      obtain ⟨p5, g9, hf⟩ := vA_open hf
      refine p_get (k := 6) X hM pc_2 (by decide) q355 rfl g9 dX2_more_226 ?_
      obtain ⟨q2, g10, hf⟩ := vQ_open hf
      refine p_getN (k := 7) X hM pc_1 (by decide) q248 rfl g10 dX2_more_229 ?_
      refine g_iload_n G dX2_more_232 rfl (lv_at hl 1 rfl) ?_
      refine g_bipush (v := 127) G dX2_more_233 rfl ?_
      obtain ⟨b3, hf⟩ := ckc_open hf
      obtain ⟨p6, h5, g11, hf⟩ := bnx_ret hf
      refine p_callV_r (ci := 2) (As := [va_rf q2, .int a2, .int 127]) (rest := [.ref p4]) X hM hl rfl b3 pcy_X2_once q934 q936 qs21 (kX2_once g11) rfl (Nat.le_of_ble_eq_true rfl) (Nat.le_of_ble_eq_true rfl) rfl dX2_more_235 (fun H locs hM => ?_)
      obtain ⟨h6, g13, hf⟩ := bnv_open hf
      refine p_putN (k := 7) X hM pc_1 (by decide) q248 rfl rfl rfl rfl g13 dX2_more_238 (fun H locs hM => ?_)
      refine g_goto (tgt := 327) G dX2_more_241 rfl ?_
      cases hf
      exact p_vret X hM rfl dX2_more_327
    have hf := it_neg c2 hf
    by_cases c3 : x1 = 2
    · have hf := it_pos c3 hf
      refine g_tableIn (off := 87) (tgt := 244) G dX2_more_157 (by rw [c3]; decide) (by rw [c3]; decide) (by rw [c3]; rfl) rfl ?_
      refine g_aload_n G dX2_more_244 rfl (lv_at hl 0 rfl) ?_
      obtain ⟨p7, g14, hf⟩ := vA_open hf
      refine p_get (k := 6) X hM pc_2 (by decide) q355 rfl g14 dX2_more_245 ?_
      refine g_aload_n G dX2_more_248 rfl (lv_at hl 0 rfl) ?_
      refine g_aload_n G dX2_more_249 rfl (lv_at hl 0 rfl) ?_
      obtain ⟨p8, g15, hf⟩ := vA_open hf
      refine p_get (k := 6) X hM pc_2 (by decide) q355 rfl g15 dX2_more_250 ?_
      obtain ⟨q3, g16, hf⟩ := vQ_open hf
      refine p_getN (k := 8) X hM pc_1 (by decide) q250 rfl g16 dX2_more_253 ?_
      refine g_iload_n G dX2_more_256 rfl (lv_at hl 1 rfl) ?_
      refine g_sipush (v := 399) G dX2_more_257 rfl ?_
      obtain ⟨b4, hf⟩ := ckc_open hf
      obtain ⟨p9, h7, g17, hf⟩ := bnx_ret hf
      refine p_callV_r (ci := 2) (As := [va_rf q3, .int a2, .int 399]) (rest := [.ref p7]) X hM hl rfl b4 pcy_X2_once q934 q936 qs21 (kX2_once g17) rfl (Nat.le_of_ble_eq_true rfl) (Nat.le_of_ble_eq_true rfl) rfl dX2_more_260 (fun H locs hM => ?_)
      obtain ⟨h8, g19, hf⟩ := bnv_open hf
      refine p_putN (k := 8) X hM pc_1 (by decide) q250 rfl rfl rfl rfl g19 dX2_more_263 (fun H locs hM => ?_)
      refine g_goto (tgt := 327) G dX2_more_266 rfl ?_
      cases hf
      exact p_vret X hM rfl dX2_more_327
    have hf := it_neg c3 hf
    by_cases c4 : x1 = 3
    · have hf := it_pos c4 hf
      refine g_tableIn (off := 112) (tgt := 269) G dX2_more_157 (by rw [c4]; decide) (by rw [c4]; decide) (by rw [c4]; rfl) rfl ?_
      refine g_aload_n G dX2_more_269 rfl (lv_at hl 0 rfl) ?_
      obtain ⟨p10, g20, hf⟩ := vA_open hf
      refine p_get (k := 6) X hM pc_2 (by decide) q355 rfl g20 dX2_more_270 ?_
      refine g_aload_n G dX2_more_273 rfl (lv_at hl 0 rfl) ?_
      refine g_iconst (v := 0) G dX2_more_274 rfl ?_
      refine g_bipush (v := 99) G dX2_more_275 rfl ?_
      obtain ⟨b5, hf⟩ := ckc_open hf
      obtain ⟨r2, h9, g21, hf⟩ := bnx_ret hf
      refine p_callV_r (ci := 2) (As := [.int 0, .int 99]) (rest := [.ref p10]) X hM hl rfl b5 pcy_X2_number_2 q789 q791 qs15 (kX2_number_2 g21) rfl (Nat.le_of_ble_eq_true rfl) (Nat.le_of_ble_eq_true rfl) rfl dX2_more_277 (fun H locs hM => ?_)
      obtain ⟨h10, g23, hf⟩ := bnv_open hf
      refine p_putN (k := 1) X hM pc_1 (by decide) q230 rfl rfl rfl rfl g23 dX2_more_280 (fun H locs hM => ?_)
      refine g_goto (tgt := 327) G dX2_more_283 rfl ?_
      cases hf
      exact p_vret X hM rfl dX2_more_327
    have hf := it_neg c4 hf
    by_cases c5 : x1 = 4
    · have hf := it_pos c5 hf
      refine g_tableIn (off := 129) (tgt := 286) G dX2_more_157 (by rw [c5]; decide) (by rw [c5]; decide) (by rw [c5]; rfl) rfl ?_
      refine g_aload_n G dX2_more_286 rfl (lv_at hl 0 rfl) ?_
      obtain ⟨p11, g24, hf⟩ := vA_open hf
      refine p_get (k := 6) X hM pc_2 (by decide) q355 rfl g24 dX2_more_287 ?_
      refine g_aload_n G dX2_more_290 rfl (lv_at hl 0 rfl) ?_
      refine g_iconst (v := 0) G dX2_more_291 rfl ?_
      refine g_bipush (v := 9) G dX2_more_292 rfl ?_
      obtain ⟨b6, hf⟩ := ckc_open hf
      obtain ⟨r3, h11, g25, hf⟩ := bnx_ret hf
      refine p_callV_r (ci := 2) (As := [.int 0, .int 9]) (rest := [.ref p11]) X hM hl rfl b6 pcy_X2_number_2 q789 q791 qs15 (kX2_number_2 g25) rfl (Nat.le_of_ble_eq_true rfl) (Nat.le_of_ble_eq_true rfl) rfl dX2_more_294 (fun H locs hM => ?_)
      obtain ⟨h12, g27, hf⟩ := bnv_open hf
      refine p_putN (k := 2) X hM pc_1 (by decide) q234 rfl rfl rfl rfl g27 dX2_more_297 (fun H locs hM => ?_)
      refine g_goto (tgt := 327) G dX2_more_300 rfl ?_
      cases hf
      exact p_vret X hM rfl dX2_more_327
    have hf := it_neg c5 hf
    by_cases c6 : x1 = 5
    · have hf := it_pos c6 hf
      refine g_tableIn (off := 146) (tgt := 303) G dX2_more_157 (by rw [c6]; decide) (by rw [c6]; decide) (by rw [c6]; rfl) rfl ?_
      refine g_aload_n G dX2_more_303 rfl (lv_at hl 0 rfl) ?_
      obtain ⟨p12, g28, hf⟩ := vA_open hf
      refine p_get (k := 6) X hM pc_2 (by decide) q355 rfl g28 dX2_more_304 ?_
      refine g_aload_n G dX2_more_307 rfl (lv_at hl 0 rfl) ?_
      refine g_iconst (v := 0) G dX2_more_308 rfl ?_
      refine g_bipush (v := 100) G dX2_more_309 rfl ?_
      obtain ⟨b7, hf⟩ := ckc_open hf
      obtain ⟨r4, h13, g29, hf⟩ := bnx_ret hf
      refine p_callV_r (ci := 2) (As := [.int 0, .int 100]) (rest := [.ref p12]) X hM hl rfl b7 pcy_X2_number_2 q789 q791 qs15 (kX2_number_2 g29) rfl (Nat.le_of_ble_eq_true rfl) (Nat.le_of_ble_eq_true rfl) rfl dX2_more_311 (fun H locs hM => ?_)
      obtain ⟨h14, g31, hf⟩ := bnv_open hf
      refine p_putN (k := 3) X hM pc_1 (by decide) q236 rfl rfl rfl rfl g31 dX2_more_314 (fun H locs hM => ?_)
      refine g_goto (tgt := 327) G dX2_more_317 rfl ?_
      cases hf
      exact p_vret X hM rfl dX2_more_327
    have hf := it_neg c6 hf
    refine g_tableOut (tgt := 320) G dX2_more_157 (by have ec1 := lv_neT c1 (a := 0) rfl; have ec2 := lv_neT c2 (a := 1) rfl; have ec3 := lv_neT c3 (a := 2) rfl; have ec4 := lv_neT c4 (a := 3) rfl; have ec5 := lv_neT c5 (a := 4) rfl; have ec6 := lv_neT c6 (a := 5) rfl; omega) rfl ?_
    refine g_aload_n G dX2_more_320 rfl (lv_at hl 0 rfl) ?_
    refine g_iconst (v := 1) G dX2_more_321 rfl ?_
    refine g_iload_n G dX2_more_322 rfl (lv_at hl 1 rfl) ?_
    obtain ⟨b8, hf⟩ := ckc_open hf
    obtain ⟨p13, h15, g32, hf⟩ := bnd_open hf
    refine p_callV_r (ci := 2) (As := [.int 1, .int a2]) (rest := []) X hM hl rfl b8 pcy_X2_wrong q555 q557 qs7 (kX2_wrong g32) rfl (Nat.le_of_ble_eq_true rfl) (Nat.le_of_ble_eq_true rfl) rfl dX2_more_323 (fun H locs hM => ?_)
    exact absurd hf (by intro z; cases z)
  by_cases c7 : r1 = (-1253089405)
  · have hf := it_pos c7 hf
    refine g_lookup (off := 74) (tgt := 83) G dX2_more_9 (by decide) (by rw [c7]; rfl) rfl ?_
    refine g_aload_n G dX2_more_83 rfl (lv_at hl 1 rfl) ?_
    refine p_ldcs X (i := 9) rfl dX2_more_84 ?_
    obtain ⟨b9, hf⟩ := ckc_open hf
    obtain ⟨r5, h16, g33, hf⟩ := bnd_open hf
    refine p_callV_r (ci := 22) (As := [va_rf (some (dK D 9))]) (rest := []) X hM hl rfl b9 pcy_J6_equals q709 q710 q711 (kJ6_equals g33) rfl (Nat.le_of_ble_eq_true rfl) (Nat.le_of_ble_eq_true rfl) rfl dX2_more_86 (fun H locs hM => ?_)
    refine g_if_eq (tgt := 155) G dX2_more_89 rfl (fun c8 => ?_) (fun c8 => ?_)
    · have hf := it_pos c8 hf
      exact J155 _ _ _ _ hf hM ls (lv_sub hl [2, 4, 0] rfl)
    · have hf := it_neg c8 hf
      refine g_iconst (v := 1) G dX2_more_92 rfl ?_
      refine g_istore (lv' := [(4, .int 1), (3, .ref a1), (0, .ref a0), (1, .ref a1), (2, .int a2)]) G dX2_more_93 hl (Nat.le_of_ble_eq_true rfl) rfl (fun ls hl => ?_)
      refine g_goto (tgt := 155) G dX2_more_95 rfl ?_
      exact J155 _ _ _ _ hf hM ls (lv_sub hl [2, 4, 0] rfl)
  have hf := it_neg c7 hf
  by_cases c9 : r1 = 104361
  · have hf := it_pos c9 hf
    refine g_lookup (off := 134) (tgt := 143) G dX2_more_9 (by decide) (by rw [c9]; rfl) rfl ?_
    refine g_aload_n G dX2_more_143 rfl (lv_at hl 1 rfl) ?_
    refine p_ldcs X (i := 13) rfl dX2_more_144 ?_
    obtain ⟨b10, hf⟩ := ckc_open hf
    obtain ⟨r6, h17, g34, hf⟩ := bnd_open hf
    refine p_callV_r (ci := 22) (As := [va_rf (some (dK D 13))]) (rest := []) X hM hl rfl b10 pcy_J6_equals q709 q710 q711 (kJ6_equals g34) rfl (Nat.le_of_ble_eq_true rfl) (Nat.le_of_ble_eq_true rfl) rfl dX2_more_146 (fun H locs hM => ?_)
    refine g_if_eq (tgt := 155) G dX2_more_149 rfl (fun c10 => ?_) (fun c10 => ?_)
    · have hf := it_pos c10 hf
      exact J155 _ _ _ _ hf hM ls (lv_sub hl [2, 4, 0] rfl)
    · have hf := it_neg c10 hf
      refine g_iconst (v := 5) G dX2_more_152 rfl ?_
      refine g_istore (lv' := [(4, .int 5), (3, .ref a1), (0, .ref a0), (1, .ref a1), (2, .int a2)]) G dX2_more_153 hl (Nat.le_of_ble_eq_true rfl) rfl (fun ls hl => ?_)
      exact J155 _ _ _ _ hf hM ls (lv_sub hl [2, 4, 0] rfl)
  have hf := it_neg c9 hf
  by_cases c11 : r1 = 3433489
  · have hf := it_pos c11 hf
    refine g_lookup (off := 104) (tgt := 113) G dX2_more_9 (by decide) (by rw [c11]; rfl) rfl ?_
    refine g_aload_n G dX2_more_113 rfl (lv_at hl 1 rfl) ?_
    refine p_ldcs X (i := 11) rfl dX2_more_114 ?_
    obtain ⟨b11, hf⟩ := ckc_open hf
    obtain ⟨r7, h18, g35, hf⟩ := bnd_open hf
    refine p_callV_r (ci := 22) (As := [va_rf (some (dK D 11))]) (rest := []) X hM hl rfl b11 pcy_J6_equals q709 q710 q711 (kJ6_equals g35) rfl (Nat.le_of_ble_eq_true rfl) (Nat.le_of_ble_eq_true rfl) rfl dX2_more_116 (fun H locs hM => ?_)
    refine g_if_eq (tgt := 155) G dX2_more_119 rfl (fun c12 => ?_) (fun c12 => ?_)
    · have hf := it_pos c12 hf
      exact J155 _ _ _ _ hf hM ls (lv_sub hl [2, 4, 0] rfl)
    · have hf := it_neg c12 hf
      refine g_iconst (v := 3) G dX2_more_122 rfl ?_
      refine g_istore (lv' := [(4, .int 3), (3, .ref a1), (0, .ref a0), (1, .ref a1), (2, .int a2)]) G dX2_more_123 hl (Nat.le_of_ble_eq_true rfl) rfl (fun ls hl => ?_)
      refine g_goto (tgt := 155) G dX2_more_125 rfl ?_
      exact J155 _ _ _ _ hf hM ls (lv_sub hl [2, 4, 0] rfl)
  have hf := it_neg c11 hf
  by_cases c13 : r1 = 3530581
  · have hf := it_pos c13 hf
    refine g_lookup (off := 89) (tgt := 98) G dX2_more_9 (by decide) (by rw [c13]; rfl) rfl ?_
    refine g_aload_n G dX2_more_98 rfl (lv_at hl 1 rfl) ?_
    refine p_ldcs X (i := 10) rfl dX2_more_99 ?_
    obtain ⟨b12, hf⟩ := ckc_open hf
    obtain ⟨r8, h19, g36, hf⟩ := bnd_open hf
    refine p_callV_r (ci := 22) (As := [va_rf (some (dK D 10))]) (rest := []) X hM hl rfl b12 pcy_J6_equals q709 q710 q711 (kJ6_equals g36) rfl (Nat.le_of_ble_eq_true rfl) (Nat.le_of_ble_eq_true rfl) rfl dX2_more_101 (fun H locs hM => ?_)
    refine g_if_eq (tgt := 155) G dX2_more_104 rfl (fun c14 => ?_) (fun c14 => ?_)
    · have hf := it_pos c14 hf
      exact J155 _ _ _ _ hf hM ls (lv_sub hl [2, 4, 0] rfl)
    · have hf := it_neg c14 hf
      refine g_iconst (v := 2) G dX2_more_107 rfl ?_
      refine g_istore (lv' := [(4, .int 2), (3, .ref a1), (0, .ref a0), (1, .ref a1), (2, .int a2)]) G dX2_more_108 hl (Nat.le_of_ble_eq_true rfl) rfl (fun ls hl => ?_)
      refine g_goto (tgt := 155) G dX2_more_110 rfl ?_
      exact J155 _ _ _ _ hf hM ls (lv_sub hl [2, 4, 0] rfl)
  have hf := it_neg c13 hf
  by_cases c15 : r1 = 110124236
  · have hf := it_pos c15 hf
    refine g_lookup (off := 59) (tgt := 68) G dX2_more_9 (by decide) (by rw [c15]; rfl) rfl ?_
    refine g_aload_n G dX2_more_68 rfl (lv_at hl 1 rfl) ?_
    refine p_ldcs X (i := 8) rfl dX2_more_69 ?_
    obtain ⟨b13, hf⟩ := ckc_open hf
    obtain ⟨r9, h20, g37, hf⟩ := bnd_open hf
    refine p_callV_r (ci := 22) (As := [va_rf (some (dK D 8))]) (rest := []) X hM hl rfl b13 pcy_J6_equals q709 q710 q711 (kJ6_equals g37) rfl (Nat.le_of_ble_eq_true rfl) (Nat.le_of_ble_eq_true rfl) rfl dX2_more_71 (fun H locs hM => ?_)
    refine g_if_eq (tgt := 155) G dX2_more_74 rfl (fun c16 => ?_) (fun c16 => ?_)
    · have hf := it_pos c16 hf
      exact J155 _ _ _ _ hf hM ls (lv_sub hl [2, 4, 0] rfl)
    · have hf := it_neg c16 hf
      refine g_iconst (v := 0) G dX2_more_77 rfl ?_
      refine g_istore (lv' := [(4, .int 0), (3, .ref a1), (0, .ref a0), (1, .ref a1), (2, .int a2)]) G dX2_more_78 hl (Nat.le_of_ble_eq_true rfl) rfl (fun ls hl => ?_)
      refine g_goto (tgt := 155) G dX2_more_80 rfl ?_
      exact J155 _ _ _ _ hf hM ls (lv_sub hl [2, 4, 0] rfl)
  have hf := it_neg c15 hf
  by_cases c17 : r1 = 110628761
  · have hf := it_pos c17 hf
    refine g_lookup (off := 119) (tgt := 128) G dX2_more_9 (by decide) (by rw [c17]; rfl) rfl ?_
    refine g_aload_n G dX2_more_128 rfl (lv_at hl 1 rfl) ?_
    refine p_ldcs X (i := 12) rfl dX2_more_129 ?_
    obtain ⟨b14, hf⟩ := ckc_open hf
    obtain ⟨r10, h21, g38, hf⟩ := bnd_open hf
    refine p_callV_r (ci := 22) (As := [va_rf (some (dK D 12))]) (rest := []) X hM hl rfl b14 pcy_J6_equals q709 q710 q711 (kJ6_equals g38) rfl (Nat.le_of_ble_eq_true rfl) (Nat.le_of_ble_eq_true rfl) rfl dX2_more_131 (fun H locs hM => ?_)
    refine g_if_eq (tgt := 155) G dX2_more_134 rfl (fun c18 => ?_) (fun c18 => ?_)
    · have hf := it_pos c18 hf
      exact J155 _ _ _ _ hf hM ls (lv_sub hl [2, 4, 0] rfl)
    · have hf := it_neg c18 hf
      refine g_iconst (v := 4) G dX2_more_137 rfl ?_
      refine g_istore (lv' := [(4, .int 4), (3, .ref a1), (0, .ref a0), (1, .ref a1), (2, .int a2)]) G dX2_more_138 hl (Nat.le_of_ble_eq_true rfl) rfl (fun ls hl => ?_)
      refine g_goto (tgt := 155) G dX2_more_140 rfl ?_
      exact J155 _ _ _ _ hf hM ls (lv_sub hl [2, 4, 0] rfl)
  have hf := it_neg c17 hf
  refine g_lookup (off := 146) (tgt := 155) G dX2_more_9 (by decide) ((lv_osw (k := (-1253089405)) c7 (by decide)).trans ((lv_osw (k := 104361) c9 (by decide)).trans ((lv_osw (k := 3433489) c11 (by decide)).trans ((lv_osw (k := 3530581) c13 (by decide)).trans ((lv_osw (k := 110124236) c15 (by decide)).trans ((lv_osw (k := 110628761) c17 (by decide)).trans rfl)))))) rfl ?_
  exact J155 _ _ _ _ hf hM ls (lv_sub hl [2, 4, 0] rfl)
set_option maxHeartbeats 1000000 in
theorem xX2_more {l : Launch} {D : PD} {A : Nat → Prop} {cap : Nat × Nat} {a0 : Nat} {a1 : Nat} {a2 : Int32} {h h' : PH} {q : Nat} (hf : fX2_more D cap a0 a1 a2 h = some (.inr q, h')) : XMet l D A cap yX2_more cX2_more 5 none 150 [.ref a0, .ref a1, .int a2] h h' (q) := by
  unfold fX2_more at hf
  refine p_headT (own := RX2) (ini := false) (pn_X2 rfl) rfl (fun q => by cases q) (Nat.le_of_ble_eq_true rfl) (fun m Z cx sx H0 ls X XT hM hl => ?_)
  have G := X.g
  have hl : lv_has ls 5 [(0, .ref a0), (1, .ref a1), (2, .int a2)] := hl
  refine g_aload_n G dX2_more_0 rfl (lv_at hl 1 rfl) ?_
  refine g_astore_n (i := 3) (lv' := [(3, .ref a1), (0, .ref a0), (1, .ref a1), (2, .int a2)]) G dX2_more_1 rfl hl (Nat.le_of_ble_eq_true rfl) rfl (fun ls hl => ?_)
  refine g_iconst (v := (-1)) G dX2_more_2 rfl ?_
  refine g_istore (lv' := [(4, .int (-1)), (3, .ref a1), (0, .ref a0), (1, .ref a1), (2, .int a2)]) G dX2_more_3 hl (Nat.le_of_ble_eq_true rfl) rfl (fun ls hl => ?_)
  refine g_aload_n G dX2_more_5 rfl (lv_at hl 1 rfl) ?_
  obtain ⟨b1, hf⟩ := ckc_open hf
  obtain ⟨r1, h1, g1, hf⟩ := bnd_open hf
  refine p_callV_r (ci := 22) (As := []) (rest := []) X hM hl rfl b1 pcy_J6_hashCode q655 q656 q657 (kJ6_hashCode g1) rfl (Nat.le_of_ble_eq_true rfl) (Nat.le_of_ble_eq_true rfl) rfl dX2_more_6 (fun H locs hM => ?_)
  obtain ⟨j155, ej155, hf⟩ := jn_open hf
  have J155 : ∀ (x1 : Int32) (h2 : PH) (H : Heap) (locs : List Loc), j155 x1 h2 = some (.inr q, h') → PI D A cap H0 h2 H locs → ∀ ls : Array Slot, lv_has ls 5 [(0, .ref a0), (2, .int a2), (4, .int x1)] → Z H locs (cx H) (sx H) (F0 m 155 ls []) := by
    intro x1 h2 H locs hf hM ls hl
    rw [ej155] at hf
    refine g_iload G dX2_more_155 (lv_at hl 2 rfl) ?_
    by_cases c1 : x1 = 0
    · have hf := it_pos c1 hf
      refine g_tableIn (off := 39) (tgt := 196) G dX2_more_157 (by rw [c1]; decide) (by rw [c1]; decide) (by rw [c1]; rfl) rfl ?_
      refine g_aload_n G dX2_more_196 rfl (lv_at hl 0 rfl) ?_
      obtain ⟨p1, g2, hf⟩ := vA_open hf
      refine p_get (k := 6) X hM pc_2 (by decide) q355 rfl g2 dX2_more_197 ?_
      refine g_aload_n G dX2_more_200 rfl (lv_at hl 0 rfl) ?_
      refine g_aload_n G dX2_more_201 rfl (lv_at hl 0 rfl) ?_
      obtain ⟨p2, g3, hf⟩ := vA_open hf
      refine p_get (k := 6) X hM pc_2 (by decide) q355 rfl g3 dX2_more_202 ?_
      obtain ⟨q1, g4, hf⟩ := vQ_open hf
      refine p_getN (k := 6) X hM pc_1 (by decide) q246 rfl g4 dX2_more_205 ?_
      refine g_iload_n G dX2_more_208 rfl (lv_at hl 1 rfl) ?_
      refine g_bipush (v := 127) G dX2_more_209 rfl ?_
      obtain ⟨b2, hf⟩ := ckc_open hf
      refine bnx_split hf (fun g6 => ?_) (fun p3 h3 g5 hf => ?_)
      · exact p_callT (ci := 2) (As := [va_rf q1, .int a2, .int 127]) (rest := [.ref p1]) XT hM hl rfl b2 pcy_X2_once q934 q936 qs21 (xX2_once g6) rfl (Nat.le_of_ble_eq_true rfl) (Nat.le_of_ble_eq_true rfl) rfl dX2_more_211
      refine p_callV_r (ci := 2) (As := [va_rf q1, .int a2, .int 127]) (rest := [.ref p1]) X hM hl rfl b2 pcy_X2_once q934 q936 qs21 (kX2_once g5) rfl (Nat.le_of_ble_eq_true rfl) (Nat.le_of_ble_eq_true rfl) rfl dX2_more_211 (fun H locs hM => ?_)
      obtain ⟨h4, g7, hf⟩ := bnv_open hf
      refine p_putN (k := 6) X hM pc_1 (by decide) q246 rfl rfl rfl rfl g7 dX2_more_214 (fun H locs hM => ?_)
      refine g_goto (tgt := 327) G dX2_more_217 rfl ?_
      exact absurd hf (by intro z; cases z)
    have hf := it_neg c1 hf
    by_cases c2 : x1 = 1
    · have hf := it_pos c2 hf
      refine g_tableIn (off := 63) (tgt := 220) G dX2_more_157 (by rw [c2]; decide) (by rw [c2]; decide) (by rw [c2]; rfl) rfl ?_
      refine g_aload_n G dX2_more_220 rfl (lv_at hl 0 rfl) ?_
      obtain ⟨p4, g8, hf⟩ := vA_open hf
      refine p_get (k := 6) X hM pc_2 (by decide) q355 rfl g8 dX2_more_221 ?_
      refine g_aload_n G dX2_more_224 rfl (lv_at hl 0 rfl) ?_
      refine g_aload_n G dX2_more_225 rfl (lv_at hl 0 rfl) ?_
      obtain ⟨p5, g9, hf⟩ := vA_open hf
      refine p_get (k := 6) X hM pc_2 (by decide) q355 rfl g9 dX2_more_226 ?_
      obtain ⟨q2, g10, hf⟩ := vQ_open hf
      refine p_getN (k := 7) X hM pc_1 (by decide) q248 rfl g10 dX2_more_229 ?_
      refine g_iload_n G dX2_more_232 rfl (lv_at hl 1 rfl) ?_
      refine g_bipush (v := 127) G dX2_more_233 rfl ?_
      obtain ⟨b3, hf⟩ := ckc_open hf
      refine bnx_split hf (fun g12 => ?_) (fun p6 h5 g11 hf => ?_)
      · exact p_callT (ci := 2) (As := [va_rf q2, .int a2, .int 127]) (rest := [.ref p4]) XT hM hl rfl b3 pcy_X2_once q934 q936 qs21 (xX2_once g12) rfl (Nat.le_of_ble_eq_true rfl) (Nat.le_of_ble_eq_true rfl) rfl dX2_more_235
      refine p_callV_r (ci := 2) (As := [va_rf q2, .int a2, .int 127]) (rest := [.ref p4]) X hM hl rfl b3 pcy_X2_once q934 q936 qs21 (kX2_once g11) rfl (Nat.le_of_ble_eq_true rfl) (Nat.le_of_ble_eq_true rfl) rfl dX2_more_235 (fun H locs hM => ?_)
      obtain ⟨h6, g13, hf⟩ := bnv_open hf
      refine p_putN (k := 7) X hM pc_1 (by decide) q248 rfl rfl rfl rfl g13 dX2_more_238 (fun H locs hM => ?_)
      refine g_goto (tgt := 327) G dX2_more_241 rfl ?_
      exact absurd hf (by intro z; cases z)
    have hf := it_neg c2 hf
    by_cases c3 : x1 = 2
    · have hf := it_pos c3 hf
      refine g_tableIn (off := 87) (tgt := 244) G dX2_more_157 (by rw [c3]; decide) (by rw [c3]; decide) (by rw [c3]; rfl) rfl ?_
      refine g_aload_n G dX2_more_244 rfl (lv_at hl 0 rfl) ?_
      obtain ⟨p7, g14, hf⟩ := vA_open hf
      refine p_get (k := 6) X hM pc_2 (by decide) q355 rfl g14 dX2_more_245 ?_
      refine g_aload_n G dX2_more_248 rfl (lv_at hl 0 rfl) ?_
      refine g_aload_n G dX2_more_249 rfl (lv_at hl 0 rfl) ?_
      obtain ⟨p8, g15, hf⟩ := vA_open hf
      refine p_get (k := 6) X hM pc_2 (by decide) q355 rfl g15 dX2_more_250 ?_
      obtain ⟨q3, g16, hf⟩ := vQ_open hf
      refine p_getN (k := 8) X hM pc_1 (by decide) q250 rfl g16 dX2_more_253 ?_
      refine g_iload_n G dX2_more_256 rfl (lv_at hl 1 rfl) ?_
      refine g_sipush (v := 399) G dX2_more_257 rfl ?_
      obtain ⟨b4, hf⟩ := ckc_open hf
      refine bnx_split hf (fun g18 => ?_) (fun p9 h7 g17 hf => ?_)
      · exact p_callT (ci := 2) (As := [va_rf q3, .int a2, .int 399]) (rest := [.ref p7]) XT hM hl rfl b4 pcy_X2_once q934 q936 qs21 (xX2_once g18) rfl (Nat.le_of_ble_eq_true rfl) (Nat.le_of_ble_eq_true rfl) rfl dX2_more_260
      refine p_callV_r (ci := 2) (As := [va_rf q3, .int a2, .int 399]) (rest := [.ref p7]) X hM hl rfl b4 pcy_X2_once q934 q936 qs21 (kX2_once g17) rfl (Nat.le_of_ble_eq_true rfl) (Nat.le_of_ble_eq_true rfl) rfl dX2_more_260 (fun H locs hM => ?_)
      obtain ⟨h8, g19, hf⟩ := bnv_open hf
      refine p_putN (k := 8) X hM pc_1 (by decide) q250 rfl rfl rfl rfl g19 dX2_more_263 (fun H locs hM => ?_)
      refine g_goto (tgt := 327) G dX2_more_266 rfl ?_
      exact absurd hf (by intro z; cases z)
    have hf := it_neg c3 hf
    by_cases c4 : x1 = 3
    · have hf := it_pos c4 hf
      refine g_tableIn (off := 112) (tgt := 269) G dX2_more_157 (by rw [c4]; decide) (by rw [c4]; decide) (by rw [c4]; rfl) rfl ?_
      refine g_aload_n G dX2_more_269 rfl (lv_at hl 0 rfl) ?_
      obtain ⟨p10, g20, hf⟩ := vA_open hf
      refine p_get (k := 6) X hM pc_2 (by decide) q355 rfl g20 dX2_more_270 ?_
      refine g_aload_n G dX2_more_273 rfl (lv_at hl 0 rfl) ?_
      refine g_iconst (v := 0) G dX2_more_274 rfl ?_
      refine g_bipush (v := 99) G dX2_more_275 rfl ?_
      obtain ⟨b5, hf⟩ := ckc_open hf
      refine bnx_split hf (fun g22 => ?_) (fun r2 h9 g21 hf => ?_)
      · exact p_callT (ci := 2) (As := [.int 0, .int 99]) (rest := [.ref p10]) XT hM hl rfl b5 pcy_X2_number_2 q789 q791 qs15 (xX2_number_2 g22) rfl (Nat.le_of_ble_eq_true rfl) (Nat.le_of_ble_eq_true rfl) rfl dX2_more_277
      refine p_callV_r (ci := 2) (As := [.int 0, .int 99]) (rest := [.ref p10]) X hM hl rfl b5 pcy_X2_number_2 q789 q791 qs15 (kX2_number_2 g21) rfl (Nat.le_of_ble_eq_true rfl) (Nat.le_of_ble_eq_true rfl) rfl dX2_more_277 (fun H locs hM => ?_)
      obtain ⟨h10, g23, hf⟩ := bnv_open hf
      refine p_putN (k := 1) X hM pc_1 (by decide) q230 rfl rfl rfl rfl g23 dX2_more_280 (fun H locs hM => ?_)
      refine g_goto (tgt := 327) G dX2_more_283 rfl ?_
      exact absurd hf (by intro z; cases z)
    have hf := it_neg c4 hf
    by_cases c5 : x1 = 4
    · have hf := it_pos c5 hf
      refine g_tableIn (off := 129) (tgt := 286) G dX2_more_157 (by rw [c5]; decide) (by rw [c5]; decide) (by rw [c5]; rfl) rfl ?_
      refine g_aload_n G dX2_more_286 rfl (lv_at hl 0 rfl) ?_
      obtain ⟨p11, g24, hf⟩ := vA_open hf
      refine p_get (k := 6) X hM pc_2 (by decide) q355 rfl g24 dX2_more_287 ?_
      refine g_aload_n G dX2_more_290 rfl (lv_at hl 0 rfl) ?_
      refine g_iconst (v := 0) G dX2_more_291 rfl ?_
      refine g_bipush (v := 9) G dX2_more_292 rfl ?_
      obtain ⟨b6, hf⟩ := ckc_open hf
      refine bnx_split hf (fun g26 => ?_) (fun r3 h11 g25 hf => ?_)
      · exact p_callT (ci := 2) (As := [.int 0, .int 9]) (rest := [.ref p11]) XT hM hl rfl b6 pcy_X2_number_2 q789 q791 qs15 (xX2_number_2 g26) rfl (Nat.le_of_ble_eq_true rfl) (Nat.le_of_ble_eq_true rfl) rfl dX2_more_294
      refine p_callV_r (ci := 2) (As := [.int 0, .int 9]) (rest := [.ref p11]) X hM hl rfl b6 pcy_X2_number_2 q789 q791 qs15 (kX2_number_2 g25) rfl (Nat.le_of_ble_eq_true rfl) (Nat.le_of_ble_eq_true rfl) rfl dX2_more_294 (fun H locs hM => ?_)
      obtain ⟨h12, g27, hf⟩ := bnv_open hf
      refine p_putN (k := 2) X hM pc_1 (by decide) q234 rfl rfl rfl rfl g27 dX2_more_297 (fun H locs hM => ?_)
      refine g_goto (tgt := 327) G dX2_more_300 rfl ?_
      exact absurd hf (by intro z; cases z)
    have hf := it_neg c5 hf
    by_cases c6 : x1 = 5
    · have hf := it_pos c6 hf
      refine g_tableIn (off := 146) (tgt := 303) G dX2_more_157 (by rw [c6]; decide) (by rw [c6]; decide) (by rw [c6]; rfl) rfl ?_
      refine g_aload_n G dX2_more_303 rfl (lv_at hl 0 rfl) ?_
      obtain ⟨p12, g28, hf⟩ := vA_open hf
      refine p_get (k := 6) X hM pc_2 (by decide) q355 rfl g28 dX2_more_304 ?_
      refine g_aload_n G dX2_more_307 rfl (lv_at hl 0 rfl) ?_
      refine g_iconst (v := 0) G dX2_more_308 rfl ?_
      refine g_bipush (v := 100) G dX2_more_309 rfl ?_
      obtain ⟨b7, hf⟩ := ckc_open hf
      refine bnx_split hf (fun g30 => ?_) (fun r4 h13 g29 hf => ?_)
      · exact p_callT (ci := 2) (As := [.int 0, .int 100]) (rest := [.ref p12]) XT hM hl rfl b7 pcy_X2_number_2 q789 q791 qs15 (xX2_number_2 g30) rfl (Nat.le_of_ble_eq_true rfl) (Nat.le_of_ble_eq_true rfl) rfl dX2_more_311
      refine p_callV_r (ci := 2) (As := [.int 0, .int 100]) (rest := [.ref p12]) X hM hl rfl b7 pcy_X2_number_2 q789 q791 qs15 (kX2_number_2 g29) rfl (Nat.le_of_ble_eq_true rfl) (Nat.le_of_ble_eq_true rfl) rfl dX2_more_311 (fun H locs hM => ?_)
      obtain ⟨h14, g31, hf⟩ := bnv_open hf
      refine p_putN (k := 3) X hM pc_1 (by decide) q236 rfl rfl rfl rfl g31 dX2_more_314 (fun H locs hM => ?_)
      refine g_goto (tgt := 327) G dX2_more_317 rfl ?_
      exact absurd hf (by intro z; cases z)
    have hf := it_neg c6 hf
    refine g_tableOut (tgt := 320) G dX2_more_157 (by have ec1 := lv_neT c1 (a := 0) rfl; have ec2 := lv_neT c2 (a := 1) rfl; have ec3 := lv_neT c3 (a := 2) rfl; have ec4 := lv_neT c4 (a := 3) rfl; have ec5 := lv_neT c5 (a := 4) rfl; have ec6 := lv_neT c6 (a := 5) rfl; omega) rfl ?_
    refine g_aload_n G dX2_more_320 rfl (lv_at hl 0 rfl) ?_
    refine g_iconst (v := 1) G dX2_more_321 rfl ?_
    refine g_iload_n G dX2_more_322 rfl (lv_at hl 1 rfl) ?_
    obtain ⟨b8, hf⟩ := ckc_open hf
    obtain ⟨p13, h15, g32, hf⟩ := bnd_open hf
    refine p_callV_r (ci := 2) (As := [.int 1, .int a2]) (rest := []) X hM hl rfl b8 pcy_X2_wrong q555 q557 qs7 (kX2_wrong g32) rfl (Nat.le_of_ble_eq_true rfl) (Nat.le_of_ble_eq_true rfl) rfl dX2_more_323 (fun H locs hM => ?_)
    cases hf
    exact p_athrow XT hM dX2_more_326
  by_cases c7 : r1 = (-1253089405)
  · have hf := it_pos c7 hf
    refine g_lookup (off := 74) (tgt := 83) G dX2_more_9 (by decide) (by rw [c7]; rfl) rfl ?_
    refine g_aload_n G dX2_more_83 rfl (lv_at hl 1 rfl) ?_
    refine p_ldcs X (i := 9) rfl dX2_more_84 ?_
    obtain ⟨b9, hf⟩ := ckc_open hf
    obtain ⟨r5, h16, g33, hf⟩ := bnd_open hf
    refine p_callV_r (ci := 22) (As := [va_rf (some (dK D 9))]) (rest := []) X hM hl rfl b9 pcy_J6_equals q709 q710 q711 (kJ6_equals g33) rfl (Nat.le_of_ble_eq_true rfl) (Nat.le_of_ble_eq_true rfl) rfl dX2_more_86 (fun H locs hM => ?_)
    refine g_if_eq (tgt := 155) G dX2_more_89 rfl (fun c8 => ?_) (fun c8 => ?_)
    · have hf := it_pos c8 hf
      exact J155 _ _ _ _ hf hM ls (lv_sub hl [2, 4, 0] rfl)
    · have hf := it_neg c8 hf
      refine g_iconst (v := 1) G dX2_more_92 rfl ?_
      refine g_istore (lv' := [(4, .int 1), (3, .ref a1), (0, .ref a0), (1, .ref a1), (2, .int a2)]) G dX2_more_93 hl (Nat.le_of_ble_eq_true rfl) rfl (fun ls hl => ?_)
      refine g_goto (tgt := 155) G dX2_more_95 rfl ?_
      exact J155 _ _ _ _ hf hM ls (lv_sub hl [2, 4, 0] rfl)
  have hf := it_neg c7 hf
  by_cases c9 : r1 = 104361
  · have hf := it_pos c9 hf
    refine g_lookup (off := 134) (tgt := 143) G dX2_more_9 (by decide) (by rw [c9]; rfl) rfl ?_
    refine g_aload_n G dX2_more_143 rfl (lv_at hl 1 rfl) ?_
    refine p_ldcs X (i := 13) rfl dX2_more_144 ?_
    obtain ⟨b10, hf⟩ := ckc_open hf
    obtain ⟨r6, h17, g34, hf⟩ := bnd_open hf
    refine p_callV_r (ci := 22) (As := [va_rf (some (dK D 13))]) (rest := []) X hM hl rfl b10 pcy_J6_equals q709 q710 q711 (kJ6_equals g34) rfl (Nat.le_of_ble_eq_true rfl) (Nat.le_of_ble_eq_true rfl) rfl dX2_more_146 (fun H locs hM => ?_)
    refine g_if_eq (tgt := 155) G dX2_more_149 rfl (fun c10 => ?_) (fun c10 => ?_)
    · have hf := it_pos c10 hf
      exact J155 _ _ _ _ hf hM ls (lv_sub hl [2, 4, 0] rfl)
    · have hf := it_neg c10 hf
      refine g_iconst (v := 5) G dX2_more_152 rfl ?_
      refine g_istore (lv' := [(4, .int 5), (3, .ref a1), (0, .ref a0), (1, .ref a1), (2, .int a2)]) G dX2_more_153 hl (Nat.le_of_ble_eq_true rfl) rfl (fun ls hl => ?_)
      exact J155 _ _ _ _ hf hM ls (lv_sub hl [2, 4, 0] rfl)
  have hf := it_neg c9 hf
  by_cases c11 : r1 = 3433489
  · have hf := it_pos c11 hf
    refine g_lookup (off := 104) (tgt := 113) G dX2_more_9 (by decide) (by rw [c11]; rfl) rfl ?_
    refine g_aload_n G dX2_more_113 rfl (lv_at hl 1 rfl) ?_
    refine p_ldcs X (i := 11) rfl dX2_more_114 ?_
    obtain ⟨b11, hf⟩ := ckc_open hf
    obtain ⟨r7, h18, g35, hf⟩ := bnd_open hf
    refine p_callV_r (ci := 22) (As := [va_rf (some (dK D 11))]) (rest := []) X hM hl rfl b11 pcy_J6_equals q709 q710 q711 (kJ6_equals g35) rfl (Nat.le_of_ble_eq_true rfl) (Nat.le_of_ble_eq_true rfl) rfl dX2_more_116 (fun H locs hM => ?_)
    refine g_if_eq (tgt := 155) G dX2_more_119 rfl (fun c12 => ?_) (fun c12 => ?_)
    · have hf := it_pos c12 hf
      exact J155 _ _ _ _ hf hM ls (lv_sub hl [2, 4, 0] rfl)
    · have hf := it_neg c12 hf
      refine g_iconst (v := 3) G dX2_more_122 rfl ?_
      refine g_istore (lv' := [(4, .int 3), (3, .ref a1), (0, .ref a0), (1, .ref a1), (2, .int a2)]) G dX2_more_123 hl (Nat.le_of_ble_eq_true rfl) rfl (fun ls hl => ?_)
      refine g_goto (tgt := 155) G dX2_more_125 rfl ?_
      exact J155 _ _ _ _ hf hM ls (lv_sub hl [2, 4, 0] rfl)
  have hf := it_neg c11 hf
  by_cases c13 : r1 = 3530581
  · have hf := it_pos c13 hf
    refine g_lookup (off := 89) (tgt := 98) G dX2_more_9 (by decide) (by rw [c13]; rfl) rfl ?_
    refine g_aload_n G dX2_more_98 rfl (lv_at hl 1 rfl) ?_
    refine p_ldcs X (i := 10) rfl dX2_more_99 ?_
    obtain ⟨b12, hf⟩ := ckc_open hf
    obtain ⟨r8, h19, g36, hf⟩ := bnd_open hf
    refine p_callV_r (ci := 22) (As := [va_rf (some (dK D 10))]) (rest := []) X hM hl rfl b12 pcy_J6_equals q709 q710 q711 (kJ6_equals g36) rfl (Nat.le_of_ble_eq_true rfl) (Nat.le_of_ble_eq_true rfl) rfl dX2_more_101 (fun H locs hM => ?_)
    refine g_if_eq (tgt := 155) G dX2_more_104 rfl (fun c14 => ?_) (fun c14 => ?_)
    · have hf := it_pos c14 hf
      exact J155 _ _ _ _ hf hM ls (lv_sub hl [2, 4, 0] rfl)
    · have hf := it_neg c14 hf
      refine g_iconst (v := 2) G dX2_more_107 rfl ?_
      refine g_istore (lv' := [(4, .int 2), (3, .ref a1), (0, .ref a0), (1, .ref a1), (2, .int a2)]) G dX2_more_108 hl (Nat.le_of_ble_eq_true rfl) rfl (fun ls hl => ?_)
      refine g_goto (tgt := 155) G dX2_more_110 rfl ?_
      exact J155 _ _ _ _ hf hM ls (lv_sub hl [2, 4, 0] rfl)
  have hf := it_neg c13 hf
  by_cases c15 : r1 = 110124236
  · have hf := it_pos c15 hf
    refine g_lookup (off := 59) (tgt := 68) G dX2_more_9 (by decide) (by rw [c15]; rfl) rfl ?_
    refine g_aload_n G dX2_more_68 rfl (lv_at hl 1 rfl) ?_
    refine p_ldcs X (i := 8) rfl dX2_more_69 ?_
    obtain ⟨b13, hf⟩ := ckc_open hf
    obtain ⟨r9, h20, g37, hf⟩ := bnd_open hf
    refine p_callV_r (ci := 22) (As := [va_rf (some (dK D 8))]) (rest := []) X hM hl rfl b13 pcy_J6_equals q709 q710 q711 (kJ6_equals g37) rfl (Nat.le_of_ble_eq_true rfl) (Nat.le_of_ble_eq_true rfl) rfl dX2_more_71 (fun H locs hM => ?_)
    refine g_if_eq (tgt := 155) G dX2_more_74 rfl (fun c16 => ?_) (fun c16 => ?_)
    · have hf := it_pos c16 hf
      exact J155 _ _ _ _ hf hM ls (lv_sub hl [2, 4, 0] rfl)
    · have hf := it_neg c16 hf
      refine g_iconst (v := 0) G dX2_more_77 rfl ?_
      refine g_istore (lv' := [(4, .int 0), (3, .ref a1), (0, .ref a0), (1, .ref a1), (2, .int a2)]) G dX2_more_78 hl (Nat.le_of_ble_eq_true rfl) rfl (fun ls hl => ?_)
      refine g_goto (tgt := 155) G dX2_more_80 rfl ?_
      exact J155 _ _ _ _ hf hM ls (lv_sub hl [2, 4, 0] rfl)
  have hf := it_neg c15 hf
  by_cases c17 : r1 = 110628761
  · have hf := it_pos c17 hf
    refine g_lookup (off := 119) (tgt := 128) G dX2_more_9 (by decide) (by rw [c17]; rfl) rfl ?_
    refine g_aload_n G dX2_more_128 rfl (lv_at hl 1 rfl) ?_
    refine p_ldcs X (i := 12) rfl dX2_more_129 ?_
    obtain ⟨b14, hf⟩ := ckc_open hf
    obtain ⟨r10, h21, g38, hf⟩ := bnd_open hf
    refine p_callV_r (ci := 22) (As := [va_rf (some (dK D 12))]) (rest := []) X hM hl rfl b14 pcy_J6_equals q709 q710 q711 (kJ6_equals g38) rfl (Nat.le_of_ble_eq_true rfl) (Nat.le_of_ble_eq_true rfl) rfl dX2_more_131 (fun H locs hM => ?_)
    refine g_if_eq (tgt := 155) G dX2_more_134 rfl (fun c18 => ?_) (fun c18 => ?_)
    · have hf := it_pos c18 hf
      exact J155 _ _ _ _ hf hM ls (lv_sub hl [2, 4, 0] rfl)
    · have hf := it_neg c18 hf
      refine g_iconst (v := 4) G dX2_more_137 rfl ?_
      refine g_istore (lv' := [(4, .int 4), (3, .ref a1), (0, .ref a0), (1, .ref a1), (2, .int a2)]) G dX2_more_138 hl (Nat.le_of_ble_eq_true rfl) rfl (fun ls hl => ?_)
      refine g_goto (tgt := 155) G dX2_more_140 rfl ?_
      exact J155 _ _ _ _ hf hM ls (lv_sub hl [2, 4, 0] rfl)
  have hf := it_neg c17 hf
  refine g_lookup (off := 146) (tgt := 155) G dX2_more_9 (by decide) ((lv_osw (k := (-1253089405)) c7 (by decide)).trans ((lv_osw (k := 104361) c9 (by decide)).trans ((lv_osw (k := 3433489) c11 (by decide)).trans ((lv_osw (k := 3530581) c13 (by decide)).trans ((lv_osw (k := 110124236) c15 (by decide)).trans ((lv_osw (k := 110628761) c17 (by decide)).trans rfl)))))) rfl ?_
  exact J155 _ _ _ _ hf hM ls (lv_sub hl [2, 4, 0] rfl)
theorem pcy_X2_all : pcY yX2_all cX2_all 3 (Option.some (Jvm.ClassFile.FieldType.object "PupilsPupil$School")) 1 := ⟨q540, q150, ⟨by decide +kernel, by decide +kernel, by decide +kernel⟩, Nat.le_of_ble_eq_true rfl⟩
noncomputable def fX2_all_L26 (D : PD) (cap : Nat × Nat) (a0 : Nat) (k107 : PH → Option ((Nat ⊕ Nat) × PH)) (s26 : PH → Option ((Nat ⊕ Nat) × PH)) (h8 : PH) : Option ((Nat ⊕ Nat) × PH) :=
  ckc (pCls h8 a0) 2 <|
  bnd (fX2_here a0 h8) fun r1 h9 =>
  if r1 = ((-1) : Int32) then
    k107 h9
  else
    vA (pF h9 a0 2 6) fun p3 =>
    vI (pF h9 p3 1 0) fun v1 =>
    jn (fun (x1 : Bool) (h10 : PH) =>
      vI (pF h10 a0 2 2) fun v2 =>
      ckc (pCls h10 a0) 2 <|
      bnx (fX2_most a0 x1 v2 h10) fun u1 h11 =>
      vA (pF h11 a0 2 6) fun p4 =>
      vI (pF h11 p4 1 0) fun v3 =>
      bnv (pPut h11 p4 1 0 (.int (v3 + 1))) fun h12 =>
      ckc (pCls h12 a0) 2 <|
      bnx (fX2_word D cap a0 h12) fun p5 h13 =>
      vI (pF h13 a0 2 3) fun v4 =>
      ckc (pCls h13 a0) 2 <|
      bnx (fX2_people D cap a0 p5 v4 h13) fun r2 h14 =>
      jn (fun (h15 : PH) =>
        ckc (pCls h15 a0) 2 <|
        bnx (fX2_must a0 59 h15) fun u2 h16 =>
        s26 h16) fun j98 =>
      if (bI r2) = 0 then
        vI (pF h14 a0 2 3) fun v5 =>
        ckc (pCls h14 a0) 2 <|
        bnx (fX2_more D cap a0 p5 v5 h14) fun u3 h17 =>
        j98 h17
      else
        j98 h14) fun j52 =>
    if v1 = (80 : Int32) then
      j52 true h9
    else
      j52 false h9
noncomputable def fX2_all (D : PD) (cap : Nat × Nat) (a0 : Nat) (a1 : Int32) (h : PH) : Option ((Nat ⊕ Nat) × PH) :=
  bnd (pNew cap h (.inr (1, [.int 0, .int 0, .int 0, .int 0, .null, .null, .null, .null, .null])) 9) fun p1 h1 =>
  bnv (fX1_init D cap p1 h1) fun h2 =>
  bnv (pPut h2 a0 2 6 (.ref p1)) fun h3 =>
  bnv (pPut h3 a0 2 1 (.int a1)) fun h4 =>
  bnv (pPut h4 a0 2 2 (.int 0)) fun h5 =>
  bnv (pPut h5 a0 2 4 (.int 0)) fun h6 =>
  jn (fun (h7 : PH) =>
    vA (pF h7 a0 2 6) fun p2 =>
    some (.inl p2, h7)) fun k107 =>
  fx (fX2_all_L26 D cap a0 k107) (fun _ => none) FU  h6
set_option maxHeartbeats 1000000 in
theorem kX2_all {l : Launch} {D : PD} {A : Nat → Prop} {cap : Nat × Nat} {a0 : Nat} {a1 : Int32} {h h' : PH} {r : Nat} (hf : fX2_all D cap a0 a1 h = some (.inl r, h')) : CMet l D A cap yX2_all cX2_all 3 (Option.some (Jvm.ClassFile.FieldType.object "PupilsPupil$School")) 151 [.ref a0, .int a1] h h' (some (.ref r)) := by
  unfold fX2_all at hf
  refine p_head (own := RX2) (ini := false) (pn_X2 rfl) rfl (fun q => by cases q) (Nat.le_of_ble_eq_true rfl) (fun m Z cx sx H0 ls X hM hl => ?_)
  have G := X.g
  have hl : lv_has ls 3 [(0, .ref a0), (1, .int a1)] := hl
  refine g_aload_n G dX2_all_0 rfl (lv_at hl 0 rfl) ?_
  obtain ⟨p1, h1, g1, hf⟩ := bnd_open hf
  refine p_new X hM pc_1 q541 q193 q146 (by decide +kernel) g1 dX2_all_1 (fun H locs hM => ?_)
  refine g_dup G dX2_all_4 rfl ?_
  obtain ⟨h2, g2, hf⟩ := bnv_open hf
  refine p_callIN_v (As := []) (rest := [.ref p1, .ref a0]) X hM hl pcy_X1_init rfl q542 q195 (kX1_init g2) rfl (Nat.le_of_ble_eq_true rfl) (Nat.le_of_ble_eq_true rfl) rfl dX2_all_5 (fun H locs hM => ?_)
  obtain ⟨h3, g3, hf⟩ := bnv_open hf
  refine p_put (k := 6) X hM pc_2 (by decide) q355 rfl rfl rfl rfl g3 dX2_all_8 (fun H locs hM => ?_)
  refine g_aload_n G dX2_all_11 rfl (lv_at hl 0 rfl) ?_
  refine g_iload_n G dX2_all_12 rfl (lv_at hl 1 rfl) ?_
  obtain ⟨h4, g4, hf⟩ := bnv_open hf
  refine p_put (k := 1) X hM pc_2 (by decide) q350 rfl rfl rfl rfl g4 dX2_all_13 (fun H locs hM => ?_)
  refine g_aload_n G dX2_all_16 rfl (lv_at hl 0 rfl) ?_
  refine g_iconst (v := 0) G dX2_all_17 rfl ?_
  obtain ⟨h5, g5, hf⟩ := bnv_open hf
  refine p_put (k := 2) X hM pc_2 (by decide) q351 rfl rfl rfl rfl g5 dX2_all_18 (fun H locs hM => ?_)
  refine g_aload_n G dX2_all_21 rfl (lv_at hl 0 rfl) ?_
  refine g_iconst (v := 0) G dX2_all_22 rfl ?_
  obtain ⟨h6, g6, hf⟩ := bnv_open hf
  refine p_put (k := 4) X hM pc_2 (by decide) q353 rfl rfl rfl rfl g6 dX2_all_23 (fun H locs hM => ?_)
  obtain ⟨k107, ek107, hf⟩ := jn_open hf
  have K107 : ∀ (h7 : PH) (H : Heap) (locs : List Loc), k107 h7 = some (.inl r, h') → PI D A cap H0 h7 H locs → ∀ ls : Array Slot, lv_has ls 3 [(0, .ref a0)] → Z H locs (cx H) (sx H) (F0 m 107 ls []) := by
    intro h7 H locs hf hM ls hl
    rw [ek107] at hf
    refine g_aload_n G dX2_all_107 rfl (lv_at hl 0 rfl) ?_
    obtain ⟨p2, g7, hf⟩ := vA_open hf
    refine p_get (k := 6) X hM pc_2 (by decide) q355 rfl g7 dX2_all_108 ?_
    cases hf
    exact p_aret X (Or.inl ⟨_, rfl⟩) hM rfl dX2_all_111
  have L26 : ∀ (n : Nat) (h8 : PH) (H : Heap) (locs : List Loc), fx (fX2_all_L26 D cap a0 k107) (fun _ => none) n h8 = some (.inl r, h') → PI D A cap H0 h8 H locs → ∀ ls : Array Slot, lv_has ls 3 [(0, .ref a0)] → Z H locs (cx H) (sx H) (F0 m 26 ls []) := by
    intro n
    induction n with
    | zero => intro h8 H locs hf; exact absurd hf (by intro q; cases q)
    | succ n ih26 =>
      intro h8 H locs hf hM ls hl
      rw [fx_s] at hf
      generalize fx (fX2_all_L26 D cap a0 k107) (fun _ => none) n = s26 at hf ih26
      unfold fX2_all_L26 at hf
      refine g_aload_n G dX2_all_26 rfl (lv_at hl 0 rfl) ?_
      obtain ⟨b1, hf⟩ := ckc_open hf
      obtain ⟨r1, h9, g8, hf⟩ := bnd_open hf
      refine p_callV_r (ci := 2) (As := []) (rest := []) X hM hl rfl b1 pcy_X2_here q543 q545 qs4 (kX2_here g8) rfl (Nat.le_of_ble_eq_true rfl) (Nat.le_of_ble_eq_true rfl) rfl dX2_all_27 (fun H locs hM => ?_)
      refine g_iconst (v := (-1)) G dX2_all_30 rfl ?_
      refine g_icmp_eq (tgt := 107) G dX2_all_31 rfl (fun c1 => ?_) (fun c1 => ?_)
      · have hf := it_pos c1 hf
        exact K107 _ _ _ hf hM ls (lv_sub hl [0] rfl)
      · have hf := it_neg c1 hf
        refine g_aload_n G dX2_all_34 rfl (lv_at hl 0 rfl) ?_
        refine g_aload_n G dX2_all_35 rfl (lv_at hl 0 rfl) ?_
        obtain ⟨p3, g9, hf⟩ := vA_open hf
        refine p_get (k := 6) X hM pc_2 (by decide) q355 rfl g9 dX2_all_36 ?_
        obtain ⟨v1, g10, hf⟩ := vI_open hf
        refine p_getN (k := 0) X hM pc_1 (by decide) q227 rfl g10 dX2_all_39 ?_
        refine g_bipush (v := 80) G dX2_all_42 rfl ?_
        obtain ⟨j52, ej52, hf⟩ := jn_open hf
        have J52 : ∀ (x1 : Bool) (h10 : PH) (H : Heap) (locs : List Loc), j52 x1 h10 = some (.inl r, h') → PI D A cap H0 h10 H locs → ∀ ls : Array Slot, lv_has ls 3 [(0, .ref a0)] → Z H locs (cx H) (sx H) (F0 m 52 ls [.int (bI x1), .ref a0]) := by
          intro x1 h10 H locs hf hM ls hl
          rw [ej52] at hf
          refine g_aload_n G dX2_all_52 rfl (lv_at hl 0 rfl) ?_
          obtain ⟨v2, g11, hf⟩ := vI_open hf
          refine p_get (k := 2) X hM pc_2 (by decide) q351 rfl g11 dX2_all_53 ?_
          obtain ⟨b2, hf⟩ := ckc_open hf
          obtain ⟨u1, h11, g12, hf⟩ := bnx_ret hf
          refine p_callV_v (ci := 2) (As := [.int (bI x1), .int v2]) (rest := []) X hM hl rfl b2 pcy_X2_most q551 q553 qs6 (kX2_most g12) rfl (Nat.le_of_ble_eq_true rfl) (Nat.le_of_ble_eq_true rfl) rfl dX2_all_56 (fun H locs hM => ?_)
          refine g_aload_n G dX2_all_59 rfl (lv_at hl 0 rfl) ?_
          obtain ⟨p4, g14, hf⟩ := vA_open hf
          refine p_get (k := 6) X hM pc_2 (by decide) q355 rfl g14 dX2_all_60 ?_
          refine g_dup G dX2_all_63 rfl ?_
          obtain ⟨v3, g15, hf⟩ := vI_open hf
          refine p_getN (k := 0) X hM pc_1 (by decide) q227 rfl g15 dX2_all_64 ?_
          refine g_iconst (v := 1) G dX2_all_67 rfl ?_
          refine g_iadd G dX2_all_68 ?_
          obtain ⟨h12, g16, hf⟩ := bnv_open hf
          refine p_putN (k := 0) X hM pc_1 (by decide) q227 rfl rfl rfl rfl g16 dX2_all_69 (fun H locs hM => ?_)
          refine g_aload_n G dX2_all_72 rfl (lv_at hl 0 rfl) ?_
          obtain ⟨b3, hf⟩ := ckc_open hf
          obtain ⟨p5, h13, g17, hf⟩ := bnx_ret hf
          refine p_callV_r (ci := 2) (As := []) (rest := []) X hM hl rfl b3 pcy_X2_word q559 q561 qs8 (kX2_word g17) rfl (Nat.le_of_ble_eq_true rfl) (Nat.le_of_ble_eq_true rfl) rfl dX2_all_73 (fun H locs hM => ?_)
          refine g_astore_n (i := 2) (lv' := [(2, .ref p5), (0, .ref a0)]) G dX2_all_76 rfl hl (Nat.le_of_ble_eq_true rfl) rfl (fun ls hl => ?_)
          refine g_aload_n G dX2_all_77 rfl (lv_at hl 1 rfl) ?_
          refine g_aload_n G dX2_all_78 rfl (lv_at hl 0 rfl) ?_
          refine g_aload_n G dX2_all_79 rfl (lv_at hl 1 rfl) ?_
          obtain ⟨v4, g19, hf⟩ := vI_open hf
          refine p_get (k := 3) X hM pc_2 (by decide) q352 rfl g19 dX2_all_80 ?_
          obtain ⟨b4, hf⟩ := ckc_open hf
          obtain ⟨r2, h14, g20, hf⟩ := bnx_ret hf
          refine p_callV_r (ci := 2) (As := [.ref p5, .int v4]) (rest := []) X hM hl rfl b4 pcy_X2_people q651 q653 qs10 (kX2_people g20) rfl (Nat.le_of_ble_eq_true rfl) (Nat.le_of_ble_eq_true rfl) rfl dX2_all_83 (fun H locs hM => ?_)
          obtain ⟨j98, ej98, hf⟩ := jn_open hf
          have J98 : ∀ (h15 : PH) (H : Heap) (locs : List Loc), j98 h15 = some (.inl r, h') → PI D A cap H0 h15 H locs → ∀ ls : Array Slot, lv_has ls 3 [(0, .ref a0)] → Z H locs (cx H) (sx H) (F0 m 98 ls []) := by
            intro h15 H locs hf hM ls hl
            rw [ej98] at hf
            refine g_aload_n G dX2_all_98 rfl (lv_at hl 0 rfl) ?_
            refine g_bipush (v := 59) G dX2_all_99 rfl ?_
            obtain ⟨b5, hf⟩ := ckc_open hf
            obtain ⟨u2, h16, g22, hf⟩ := bnx_ret hf
            refine p_callV_v (ci := 2) (As := [.int 59]) (rest := []) X hM hl rfl b5 pcy_X2_must q973 q975 qs26 (kX2_must g22) rfl (Nat.le_of_ble_eq_true rfl) (Nat.le_of_ble_eq_true rfl) rfl dX2_all_101 (fun H locs hM => ?_)
            refine g_goto (tgt := 26) G dX2_all_104 rfl ?_
            exact ih26 _ _ _ hf hM ls (lv_sub hl [0] rfl)
          refine g_if_ne (tgt := 98) G dX2_all_86 rfl (fun c2 => ?_) (fun c2 => ?_)
          · have hf := it_neg c2 hf
            exact J98 _ _ _ hf hM ls (lv_sub hl [1] rfl)
          · have hf := it_pos c2 hf
            refine g_aload_n G dX2_all_89 rfl (lv_at hl 1 rfl) ?_
            refine g_aload_n G dX2_all_90 rfl (lv_at hl 0 rfl) ?_
            refine g_aload_n G dX2_all_91 rfl (lv_at hl 1 rfl) ?_
            obtain ⟨v5, g24, hf⟩ := vI_open hf
            refine p_get (k := 3) X hM pc_2 (by decide) q352 rfl g24 dX2_all_92 ?_
            obtain ⟨b6, hf⟩ := ckc_open hf
            obtain ⟨u3, h17, g25, hf⟩ := bnx_ret hf
            refine p_callV_v (ci := 2) (As := [.ref p5, .int v5]) (rest := []) X hM hl rfl b6 pcy_X2_more q924 q926 qs20 (kX2_more g25) rfl (Nat.le_of_ble_eq_true rfl) (Nat.le_of_ble_eq_true rfl) rfl dX2_all_95 (fun H locs hM => ?_)
            exact J98 _ _ _ hf hM ls (lv_sub hl [1] rfl)
        refine g_icmp_ne (tgt := 51) G dX2_all_44 rfl (fun c3 => ?_) (fun c3 => ?_)
        · have hf := it_neg c3 hf
          refine g_iconst (v := 0) G dX2_all_51 rfl ?_
          exact J52 _ _ _ _ hf hM ls (lv_sub hl [0] rfl)
        · have hf := it_pos c3 hf
          refine g_iconst (v := 1) G dX2_all_47 rfl ?_
          refine g_goto (tgt := 52) G dX2_all_48 rfl ?_
          exact J52 _ _ _ _ hf hM ls (lv_sub hl [0] rfl)
  exact L26 FU _ _ _ hf hM ls (lv_sub hl [0] rfl)
set_option maxHeartbeats 1000000 in
theorem xX2_all {l : Launch} {D : PD} {A : Nat → Prop} {cap : Nat × Nat} {a0 : Nat} {a1 : Int32} {h h' : PH} {q : Nat} (hf : fX2_all D cap a0 a1 h = some (.inr q, h')) : XMet l D A cap yX2_all cX2_all 3 (Option.some (Jvm.ClassFile.FieldType.object "PupilsPupil$School")) 151 [.ref a0, .int a1] h h' (q) := by
  unfold fX2_all at hf
  refine p_headT (own := RX2) (ini := false) (pn_X2 rfl) rfl (fun q => by cases q) (Nat.le_of_ble_eq_true rfl) (fun m Z cx sx H0 ls X XT hM hl => ?_)
  have G := X.g
  have hl : lv_has ls 3 [(0, .ref a0), (1, .int a1)] := hl
  refine g_aload_n G dX2_all_0 rfl (lv_at hl 0 rfl) ?_
  obtain ⟨p1, h1, g1, hf⟩ := bnd_open hf
  refine p_new X hM pc_1 q541 q193 q146 (by decide +kernel) g1 dX2_all_1 (fun H locs hM => ?_)
  refine g_dup G dX2_all_4 rfl ?_
  obtain ⟨h2, g2, hf⟩ := bnv_open hf
  refine p_callIN_v (As := []) (rest := [.ref p1, .ref a0]) X hM hl pcy_X1_init rfl q542 q195 (kX1_init g2) rfl (Nat.le_of_ble_eq_true rfl) (Nat.le_of_ble_eq_true rfl) rfl dX2_all_5 (fun H locs hM => ?_)
  obtain ⟨h3, g3, hf⟩ := bnv_open hf
  refine p_put (k := 6) X hM pc_2 (by decide) q355 rfl rfl rfl rfl g3 dX2_all_8 (fun H locs hM => ?_)
  refine g_aload_n G dX2_all_11 rfl (lv_at hl 0 rfl) ?_
  refine g_iload_n G dX2_all_12 rfl (lv_at hl 1 rfl) ?_
  obtain ⟨h4, g4, hf⟩ := bnv_open hf
  refine p_put (k := 1) X hM pc_2 (by decide) q350 rfl rfl rfl rfl g4 dX2_all_13 (fun H locs hM => ?_)
  refine g_aload_n G dX2_all_16 rfl (lv_at hl 0 rfl) ?_
  refine g_iconst (v := 0) G dX2_all_17 rfl ?_
  obtain ⟨h5, g5, hf⟩ := bnv_open hf
  refine p_put (k := 2) X hM pc_2 (by decide) q351 rfl rfl rfl rfl g5 dX2_all_18 (fun H locs hM => ?_)
  refine g_aload_n G dX2_all_21 rfl (lv_at hl 0 rfl) ?_
  refine g_iconst (v := 0) G dX2_all_22 rfl ?_
  obtain ⟨h6, g6, hf⟩ := bnv_open hf
  refine p_put (k := 4) X hM pc_2 (by decide) q353 rfl rfl rfl rfl g6 dX2_all_23 (fun H locs hM => ?_)
  obtain ⟨k107, ek107, hf⟩ := jn_open hf
  have K107 : ∀ (h7 : PH) (H : Heap) (locs : List Loc), k107 h7 = some (.inr q, h') → PI D A cap H0 h7 H locs → ∀ ls : Array Slot, lv_has ls 3 [(0, .ref a0)] → Z H locs (cx H) (sx H) (F0 m 107 ls []) := by
    intro h7 H locs hf hM ls hl
    rw [ek107] at hf
    refine g_aload_n G dX2_all_107 rfl (lv_at hl 0 rfl) ?_
    obtain ⟨p2, g7, hf⟩ := vA_open hf
    refine p_get (k := 6) X hM pc_2 (by decide) q355 rfl g7 dX2_all_108 ?_
    exact absurd hf (by intro z; cases z)
  have L26 : ∀ (n : Nat) (h8 : PH) (H : Heap) (locs : List Loc), fx (fX2_all_L26 D cap a0 k107) (fun _ => none) n h8 = some (.inr q, h') → PI D A cap H0 h8 H locs → ∀ ls : Array Slot, lv_has ls 3 [(0, .ref a0)] → Z H locs (cx H) (sx H) (F0 m 26 ls []) := by
    intro n
    induction n with
    | zero => intro h8 H locs hf; exact absurd hf (by intro q; cases q)
    | succ n ih26 =>
      intro h8 H locs hf hM ls hl
      rw [fx_s] at hf
      generalize fx (fX2_all_L26 D cap a0 k107) (fun _ => none) n = s26 at hf ih26
      unfold fX2_all_L26 at hf
      refine g_aload_n G dX2_all_26 rfl (lv_at hl 0 rfl) ?_
      obtain ⟨b1, hf⟩ := ckc_open hf
      obtain ⟨r1, h9, g8, hf⟩ := bnd_open hf
      refine p_callV_r (ci := 2) (As := []) (rest := []) X hM hl rfl b1 pcy_X2_here q543 q545 qs4 (kX2_here g8) rfl (Nat.le_of_ble_eq_true rfl) (Nat.le_of_ble_eq_true rfl) rfl dX2_all_27 (fun H locs hM => ?_)
      refine g_iconst (v := (-1)) G dX2_all_30 rfl ?_
      refine g_icmp_eq (tgt := 107) G dX2_all_31 rfl (fun c1 => ?_) (fun c1 => ?_)
      · have hf := it_pos c1 hf
        exact K107 _ _ _ hf hM ls (lv_sub hl [0] rfl)
      · have hf := it_neg c1 hf
        refine g_aload_n G dX2_all_34 rfl (lv_at hl 0 rfl) ?_
        refine g_aload_n G dX2_all_35 rfl (lv_at hl 0 rfl) ?_
        obtain ⟨p3, g9, hf⟩ := vA_open hf
        refine p_get (k := 6) X hM pc_2 (by decide) q355 rfl g9 dX2_all_36 ?_
        obtain ⟨v1, g10, hf⟩ := vI_open hf
        refine p_getN (k := 0) X hM pc_1 (by decide) q227 rfl g10 dX2_all_39 ?_
        refine g_bipush (v := 80) G dX2_all_42 rfl ?_
        obtain ⟨j52, ej52, hf⟩ := jn_open hf
        have J52 : ∀ (x1 : Bool) (h10 : PH) (H : Heap) (locs : List Loc), j52 x1 h10 = some (.inr q, h') → PI D A cap H0 h10 H locs → ∀ ls : Array Slot, lv_has ls 3 [(0, .ref a0)] → Z H locs (cx H) (sx H) (F0 m 52 ls [.int (bI x1), .ref a0]) := by
          intro x1 h10 H locs hf hM ls hl
          rw [ej52] at hf
          refine g_aload_n G dX2_all_52 rfl (lv_at hl 0 rfl) ?_
          obtain ⟨v2, g11, hf⟩ := vI_open hf
          refine p_get (k := 2) X hM pc_2 (by decide) q351 rfl g11 dX2_all_53 ?_
          obtain ⟨b2, hf⟩ := ckc_open hf
          refine bnx_split hf (fun g13 => ?_) (fun u1 h11 g12 hf => ?_)
          · exact p_callT (ci := 2) (As := [.int (bI x1), .int v2]) (rest := []) XT hM hl rfl b2 pcy_X2_most q551 q553 qs6 (xX2_most g13) rfl (Nat.le_of_ble_eq_true rfl) (Nat.le_of_ble_eq_true rfl) rfl dX2_all_56
          refine p_callV_v (ci := 2) (As := [.int (bI x1), .int v2]) (rest := []) X hM hl rfl b2 pcy_X2_most q551 q553 qs6 (kX2_most g12) rfl (Nat.le_of_ble_eq_true rfl) (Nat.le_of_ble_eq_true rfl) rfl dX2_all_56 (fun H locs hM => ?_)
          refine g_aload_n G dX2_all_59 rfl (lv_at hl 0 rfl) ?_
          obtain ⟨p4, g14, hf⟩ := vA_open hf
          refine p_get (k := 6) X hM pc_2 (by decide) q355 rfl g14 dX2_all_60 ?_
          refine g_dup G dX2_all_63 rfl ?_
          obtain ⟨v3, g15, hf⟩ := vI_open hf
          refine p_getN (k := 0) X hM pc_1 (by decide) q227 rfl g15 dX2_all_64 ?_
          refine g_iconst (v := 1) G dX2_all_67 rfl ?_
          refine g_iadd G dX2_all_68 ?_
          obtain ⟨h12, g16, hf⟩ := bnv_open hf
          refine p_putN (k := 0) X hM pc_1 (by decide) q227 rfl rfl rfl rfl g16 dX2_all_69 (fun H locs hM => ?_)
          refine g_aload_n G dX2_all_72 rfl (lv_at hl 0 rfl) ?_
          obtain ⟨b3, hf⟩ := ckc_open hf
          refine bnx_split hf (fun g18 => ?_) (fun p5 h13 g17 hf => ?_)
          · exact p_callT (ci := 2) (As := []) (rest := []) XT hM hl rfl b3 pcy_X2_word q559 q561 qs8 (xX2_word g18) rfl (Nat.le_of_ble_eq_true rfl) (Nat.le_of_ble_eq_true rfl) rfl dX2_all_73
          refine p_callV_r (ci := 2) (As := []) (rest := []) X hM hl rfl b3 pcy_X2_word q559 q561 qs8 (kX2_word g17) rfl (Nat.le_of_ble_eq_true rfl) (Nat.le_of_ble_eq_true rfl) rfl dX2_all_73 (fun H locs hM => ?_)
          refine g_astore_n (i := 2) (lv' := [(2, .ref p5), (0, .ref a0)]) G dX2_all_76 rfl hl (Nat.le_of_ble_eq_true rfl) rfl (fun ls hl => ?_)
          refine g_aload_n G dX2_all_77 rfl (lv_at hl 1 rfl) ?_
          refine g_aload_n G dX2_all_78 rfl (lv_at hl 0 rfl) ?_
          refine g_aload_n G dX2_all_79 rfl (lv_at hl 1 rfl) ?_
          obtain ⟨v4, g19, hf⟩ := vI_open hf
          refine p_get (k := 3) X hM pc_2 (by decide) q352 rfl g19 dX2_all_80 ?_
          obtain ⟨b4, hf⟩ := ckc_open hf
          refine bnx_split hf (fun g21 => ?_) (fun r2 h14 g20 hf => ?_)
          · exact p_callT (ci := 2) (As := [.ref p5, .int v4]) (rest := []) XT hM hl rfl b4 pcy_X2_people q651 q653 qs10 (xX2_people g21) rfl (Nat.le_of_ble_eq_true rfl) (Nat.le_of_ble_eq_true rfl) rfl dX2_all_83
          refine p_callV_r (ci := 2) (As := [.ref p5, .int v4]) (rest := []) X hM hl rfl b4 pcy_X2_people q651 q653 qs10 (kX2_people g20) rfl (Nat.le_of_ble_eq_true rfl) (Nat.le_of_ble_eq_true rfl) rfl dX2_all_83 (fun H locs hM => ?_)
          obtain ⟨j98, ej98, hf⟩ := jn_open hf
          have J98 : ∀ (h15 : PH) (H : Heap) (locs : List Loc), j98 h15 = some (.inr q, h') → PI D A cap H0 h15 H locs → ∀ ls : Array Slot, lv_has ls 3 [(0, .ref a0)] → Z H locs (cx H) (sx H) (F0 m 98 ls []) := by
            intro h15 H locs hf hM ls hl
            rw [ej98] at hf
            refine g_aload_n G dX2_all_98 rfl (lv_at hl 0 rfl) ?_
            refine g_bipush (v := 59) G dX2_all_99 rfl ?_
            obtain ⟨b5, hf⟩ := ckc_open hf
            refine bnx_split hf (fun g23 => ?_) (fun u2 h16 g22 hf => ?_)
            · exact p_callT (ci := 2) (As := [.int 59]) (rest := []) XT hM hl rfl b5 pcy_X2_must q973 q975 qs26 (xX2_must g23) rfl (Nat.le_of_ble_eq_true rfl) (Nat.le_of_ble_eq_true rfl) rfl dX2_all_101
            refine p_callV_v (ci := 2) (As := [.int 59]) (rest := []) X hM hl rfl b5 pcy_X2_must q973 q975 qs26 (kX2_must g22) rfl (Nat.le_of_ble_eq_true rfl) (Nat.le_of_ble_eq_true rfl) rfl dX2_all_101 (fun H locs hM => ?_)
            refine g_goto (tgt := 26) G dX2_all_104 rfl ?_
            exact ih26 _ _ _ hf hM ls (lv_sub hl [0] rfl)
          refine g_if_ne (tgt := 98) G dX2_all_86 rfl (fun c2 => ?_) (fun c2 => ?_)
          · have hf := it_neg c2 hf
            exact J98 _ _ _ hf hM ls (lv_sub hl [1] rfl)
          · have hf := it_pos c2 hf
            refine g_aload_n G dX2_all_89 rfl (lv_at hl 1 rfl) ?_
            refine g_aload_n G dX2_all_90 rfl (lv_at hl 0 rfl) ?_
            refine g_aload_n G dX2_all_91 rfl (lv_at hl 1 rfl) ?_
            obtain ⟨v5, g24, hf⟩ := vI_open hf
            refine p_get (k := 3) X hM pc_2 (by decide) q352 rfl g24 dX2_all_92 ?_
            obtain ⟨b6, hf⟩ := ckc_open hf
            refine bnx_split hf (fun g26 => ?_) (fun u3 h17 g25 hf => ?_)
            · exact p_callT (ci := 2) (As := [.ref p5, .int v5]) (rest := []) XT hM hl rfl b6 pcy_X2_more q924 q926 qs20 (xX2_more g26) rfl (Nat.le_of_ble_eq_true rfl) (Nat.le_of_ble_eq_true rfl) rfl dX2_all_95
            refine p_callV_v (ci := 2) (As := [.ref p5, .int v5]) (rest := []) X hM hl rfl b6 pcy_X2_more q924 q926 qs20 (kX2_more g25) rfl (Nat.le_of_ble_eq_true rfl) (Nat.le_of_ble_eq_true rfl) rfl dX2_all_95 (fun H locs hM => ?_)
            exact J98 _ _ _ hf hM ls (lv_sub hl [1] rfl)
        refine g_icmp_ne (tgt := 51) G dX2_all_44 rfl (fun c3 => ?_) (fun c3 => ?_)
        · have hf := it_neg c3 hf
          refine g_iconst (v := 0) G dX2_all_51 rfl ?_
          exact J52 _ _ _ _ hf hM ls (lv_sub hl [0] rfl)
        · have hf := it_pos c3 hf
          refine g_iconst (v := 1) G dX2_all_47 rfl ?_
          refine g_goto (tgt := 52) G dX2_all_48 rfl ?_
          exact J52 _ _ _ _ hf hM ls (lv_sub hl [0] rfl)
  exact L26 FU _ _ _ hf hM ls (lv_sub hl [0] rfl)
theorem pcy_X2_question : pcY yX2_question cX2_question 4 (Option.some (Jvm.ClassFile.FieldType.object "PupilsPupil$Question")) 1 := ⟨q1553, q150, ⟨by decide +kernel, by decide +kernel, by decide +kernel⟩, Nat.le_of_ble_eq_true rfl⟩
noncomputable def fX2_question (D : PD) (cap : Nat × Nat) (a0 : Nat) (a1 : Int32) (h : PH) : Option ((Nat ⊕ Nat) × PH) :=
  bnv (pPut h a0 2 1 (.int a1)) fun h1 =>
  bnv (pPut h1 a0 2 2 (.int 0)) fun h2 =>
  bnv (pPut h2 a0 2 4 (.int 0)) fun h3 =>
  bnv (pPut h3 a0 2 5 (.int 3999)) fun h4 =>
  ckc (pCls h4 a0) 2 <|
  bnx (fX2_word D cap a0 h4) fun p1 h5 =>
  vA (some (dS D 3)) fun p2 =>
  bnd (fX0_find D p1 p2 h5) fun r1 h6 =>
  if r1 = ((-1) : Int32) then
    vI (pF h6 a0 2 3) fun v2 =>
    ckc (pCls h6 a0) 2 <|
    bnd (fX2_wrong a0 1 v2 h6) fun p8 h16 =>
    some (.inr p8, h16)
  else
    jn (fun (x1 : Nat) (h7 : PH) =>
      ckc (pCls h7 a0) 2 <|
      bnd (fX2_here a0 h7) fun r2 h8 =>
      if r2 = ((-1) : Int32) then
        some (.inl x1, h8)
      else
        vI (pF h8 a0 2 2) fun v1 =>
        ckc (pCls h8 a0) 2 <|
        bnd (fX2_wrong a0 1 v1 h8) fun p3 h9 =>
        some (.inr p3, h9)) fun j82 =>
    if (3 : Int32) ≤ r1 then
      bnd (pNew cap h6 (.inr (20, [.int 0, .null, .null, .long 0, .int 0])) 5) fun p4 h10 =>
      ckc (pCls h10 a0) 2 <|
      bnx (vSumT D cap a0 h10) fun p5 h11 =>
      bnv (fX20_init p4 r1 none (some p5) h11) fun h12 =>
      j82 p4 h12
    else
      bnd (pNew cap h6 (.inr (20, [.int 0, .null, .null, .long 0, .int 0])) 5) fun p6 h13 =>
      ckc (pCls h13 a0) 2 <|
      bnx (vTestT D cap a0 h13) fun p7 h14 =>
      bnv (fX20_init p6 r1 (some p7) none h14) fun h15 =>
      j82 p6 h15
set_option maxHeartbeats 1000000 in
theorem kX2_question {l : Launch} {D : PD} {A : Nat → Prop} {cap : Nat × Nat} {a0 : Nat} {a1 : Int32} {h h' : PH} {r : Nat} (hf : fX2_question D cap a0 a1 h = some (.inl r, h')) : CMet l D A cap yX2_question cX2_question 4 (Option.some (Jvm.ClassFile.FieldType.object "PupilsPupil$Question")) 149 [.ref a0, .int a1] h h' (some (.ref r)) := by
  unfold fX2_question at hf
  refine p_head (own := RX2) (ini := false) (pn_X2 rfl) rfl (fun q => by cases q) (Nat.le_of_ble_eq_true rfl) (fun m Z cx sx H0 ls X hM hl => ?_)
  have G := X.g
  have hl : lv_has ls 4 [(0, .ref a0), (1, .int a1)] := hl
  refine g_aload_n G dX2_question_0 rfl (lv_at hl 0 rfl) ?_
  refine g_iload_n G dX2_question_1 rfl (lv_at hl 1 rfl) ?_
  obtain ⟨h1, g1, hf⟩ := bnv_open hf
  refine p_put (k := 1) X hM pc_2 (by decide) q350 rfl rfl rfl rfl g1 dX2_question_2 (fun H locs hM => ?_)
  refine g_aload_n G dX2_question_5 rfl (lv_at hl 0 rfl) ?_
  refine g_iconst (v := 0) G dX2_question_6 rfl ?_
  obtain ⟨h2, g2, hf⟩ := bnv_open hf
  refine p_put (k := 2) X hM pc_2 (by decide) q351 rfl rfl rfl rfl g2 dX2_question_7 (fun H locs hM => ?_)
  refine g_aload_n G dX2_question_10 rfl (lv_at hl 0 rfl) ?_
  refine g_iconst (v := 0) G dX2_question_11 rfl ?_
  obtain ⟨h3, g3, hf⟩ := bnv_open hf
  refine p_put (k := 4) X hM pc_2 (by decide) q353 rfl rfl rfl rfl g3 dX2_question_12 (fun H locs hM => ?_)
  refine g_aload_n G dX2_question_15 rfl (lv_at hl 0 rfl) ?_
  refine g_sipush (v := 3999) G dX2_question_16 rfl ?_
  obtain ⟨h4, g4, hf⟩ := bnv_open hf
  refine p_put (k := 5) X hM pc_2 (by decide) q354 rfl rfl rfl rfl g4 dX2_question_19 (fun H locs hM => ?_)
  refine g_aload_n G dX2_question_22 rfl (lv_at hl 0 rfl) ?_
  obtain ⟨b1, hf⟩ := ckc_open hf
  obtain ⟨p1, h5, g5, hf⟩ := bnx_ret hf
  refine p_callV_r (ci := 2) (As := []) (rest := []) X hM hl rfl b1 pcy_X2_word q559 q561 qs8 (kX2_word g5) rfl (Nat.le_of_ble_eq_true rfl) (Nat.le_of_ble_eq_true rfl) rfl dX2_question_23 (fun H locs hM => ?_)
  obtain ⟨p2, g7, hf⟩ := vA_open hf
  refine p_getsN X hM (i := 3) rfl q1554 dX2_question_26 ?_
  rw [Option.some.inj g7]
  obtain ⟨r1, h6, g8, hf⟩ := bnd_open hf
  refine p_callSN_r (As := [.ref p1, .ref p2]) (rest := []) X hM hl pcy_X0_find q740 q741 (kX0_find g8) rfl (Nat.le_of_ble_eq_true rfl) (Nat.le_of_ble_eq_true rfl) rfl dX2_question_29 (fun H locs hM => ?_)
  refine g_istore_n (i := 2) (lv' := [(2, .int r1), (0, .ref a0), (1, .int a1)]) G dX2_question_32 rfl hl (Nat.le_of_ble_eq_true rfl) rfl (fun ls hl => ?_)
  refine g_iload_n G dX2_question_33 rfl (lv_at hl 0 rfl) ?_
  refine g_iconst (v := (-1)) G dX2_question_34 rfl ?_
  refine g_icmp_ne (tgt := 48) G dX2_question_35 rfl (fun c1 => ?_) (fun c1 => ?_)
  · have hf := it_neg c1 hf
    refine g_iload_n G dX2_question_48 rfl (lv_at hl 0 rfl) ?_
    refine g_iconst (v := 3) G dX2_question_49 rfl ?_
    obtain ⟨j82, ej82, hf⟩ := jn_open hf
    have J82 : ∀ (x1 : Nat) (h7 : PH) (H : Heap) (locs : List Loc), j82 x1 h7 = some (.inl r, h') → PI D A cap H0 h7 H locs → ∀ ls : Array Slot, lv_has ls 4 [(0, .ref a0)] → Z H locs (cx H) (sx H) (F0 m 82 ls [.ref x1]) := by
      intro x1 h7 H locs hf hM ls hl
      rw [ej82] at hf
      refine g_astore_n (i := 3) (lv' := [(3, .ref x1), (0, .ref a0)]) G dX2_question_82 rfl hl (Nat.le_of_ble_eq_true rfl) rfl (fun ls hl => ?_)
      refine g_aload_n G dX2_question_83 rfl (lv_at hl 1 rfl) ?_
      obtain ⟨b2, hf⟩ := ckc_open hf
      obtain ⟨r2, h8, g9, hf⟩ := bnd_open hf
      refine p_callV_r (ci := 2) (As := []) (rest := []) X hM hl rfl b2 pcy_X2_here q543 q545 qs4 (kX2_here g9) rfl (Nat.le_of_ble_eq_true rfl) (Nat.le_of_ble_eq_true rfl) rfl dX2_question_84 (fun H locs hM => ?_)
      refine g_iconst (v := (-1)) G dX2_question_87 rfl ?_
      refine g_icmp_eq (tgt := 101) G dX2_question_88 rfl (fun c2 => ?_) (fun c2 => ?_)
      · have hf := it_pos c2 hf
        refine g_aload_n G dX2_question_101 rfl (lv_at hl 0 rfl) ?_
        cases hf
        exact p_aret X (Or.inl ⟨_, rfl⟩) hM rfl dX2_question_102
      · have hf := it_neg c2 hf
        refine g_aload_n G dX2_question_91 rfl (lv_at hl 1 rfl) ?_
        refine g_iconst (v := 1) G dX2_question_92 rfl ?_
        refine g_aload_n G dX2_question_93 rfl (lv_at hl 1 rfl) ?_
        obtain ⟨v1, g10, hf⟩ := vI_open hf
        refine p_get (k := 2) X hM pc_2 (by decide) q351 rfl g10 dX2_question_94 ?_
        obtain ⟨b3, hf⟩ := ckc_open hf
        obtain ⟨p3, h9, g11, hf⟩ := bnd_open hf
        refine p_callV_r (ci := 2) (As := [.int 1, .int v1]) (rest := []) X hM hl rfl b3 pcy_X2_wrong q555 q557 qs7 (kX2_wrong g11) rfl (Nat.le_of_ble_eq_true rfl) (Nat.le_of_ble_eq_true rfl) rfl dX2_question_97 (fun H locs hM => ?_)
        exact absurd hf (by intro z; cases z)
    refine g_icmp_ge (tgt := 69) G dX2_question_50 rfl (fun c3 => ?_) (fun c3 => ?_)
    · have hf := it_pos c3 hf
      obtain ⟨p4, h10, g12, hf⟩ := bnd_open hf
      refine p_new X hM pc_20 q1556 q1557 q183 (by decide +kernel) g12 dX2_question_69 (fun H locs hM => ?_)
      refine g_dup G dX2_question_72 rfl ?_
      refine g_iload_n G dX2_question_73 rfl (lv_at hl 0 rfl) ?_
      refine g_null G dX2_question_74 ?_
      refine g_aload_n G dX2_question_75 rfl (lv_at hl 1 rfl) ?_
      obtain ⟨b4, hf⟩ := ckc_open hf
      obtain ⟨p5, h11, g13, hf⟩ := bnx_ret hf
      refine p_callV_r (ci := 2) (As := []) (rest := [.null, .int r1, .ref p4, .ref p4]) X hM hl rfl b4 pcy_X2_sum q1000 q1002 qs28 (kvSumT g13) rfl (Nat.le_of_ble_eq_true rfl) (Nat.le_of_ble_eq_true rfl) rfl dX2_question_76 (fun H locs hM => ?_)
      obtain ⟨h12, g15, hf⟩ := bnv_open hf
      refine p_callI_v (As := [.int r1, va_rf none, va_rf (some p5)]) (rest := [.ref p4]) X hM hl pcy_X20_init rfl q1558 q1559 (kX20_init g15) rfl (Nat.le_of_ble_eq_true rfl) (Nat.le_of_ble_eq_true rfl) rfl dX2_question_79 (fun H locs hM => ?_)
      exact J82 _ _ _ _ hf hM ls (lv_sub hl [1] rfl)
    · have hf := it_neg c3 hf
      obtain ⟨p6, h13, g16, hf⟩ := bnd_open hf
      refine p_new X hM pc_20 q1556 q1557 q183 (by decide +kernel) g16 dX2_question_53 (fun H locs hM => ?_)
      refine g_dup G dX2_question_56 rfl ?_
      refine g_iload_n G dX2_question_57 rfl (lv_at hl 0 rfl) ?_
      refine g_aload_n G dX2_question_58 rfl (lv_at hl 1 rfl) ?_
      obtain ⟨b5, hf⟩ := ckc_open hf
      obtain ⟨p7, h14, g17, hf⟩ := bnx_ret hf
      refine p_callV_r (ci := 2) (As := []) (rest := [.int r1, .ref p6, .ref p6]) X hM hl rfl b5 pcy_X2_test q938 q940 qs22 (kvTestT g17) rfl (Nat.le_of_ble_eq_true rfl) (Nat.le_of_ble_eq_true rfl) rfl dX2_question_59 (fun H locs hM => ?_)
      refine g_null G dX2_question_62 ?_
      obtain ⟨h15, g19, hf⟩ := bnv_open hf
      refine p_callI_v (As := [.int r1, va_rf (some p7), va_rf none]) (rest := [.ref p6]) X hM hl pcy_X20_init rfl q1558 q1559 (kX20_init g19) rfl (Nat.le_of_ble_eq_true rfl) (Nat.le_of_ble_eq_true rfl) rfl dX2_question_63 (fun H locs hM => ?_)
      refine g_goto (tgt := 82) G dX2_question_66 rfl ?_
      exact J82 _ _ _ _ hf hM ls (lv_sub hl [1] rfl)
  · have hf := it_pos c1 hf
    refine g_aload_n G dX2_question_38 rfl (lv_at hl 1 rfl) ?_
    refine g_iconst (v := 1) G dX2_question_39 rfl ?_
    refine g_aload_n G dX2_question_40 rfl (lv_at hl 1 rfl) ?_
    obtain ⟨v2, g20, hf⟩ := vI_open hf
    refine p_get (k := 3) X hM pc_2 (by decide) q352 rfl g20 dX2_question_41 ?_
    obtain ⟨b6, hf⟩ := ckc_open hf
    obtain ⟨p8, h16, g21, hf⟩ := bnd_open hf
    refine p_callV_r (ci := 2) (As := [.int 1, .int v2]) (rest := []) X hM hl rfl b6 pcy_X2_wrong q555 q557 qs7 (kX2_wrong g21) rfl (Nat.le_of_ble_eq_true rfl) (Nat.le_of_ble_eq_true rfl) rfl dX2_question_44 (fun H locs hM => ?_)
    exact absurd hf (by intro z; cases z)
set_option maxHeartbeats 1000000 in
theorem xX2_question {l : Launch} {D : PD} {A : Nat → Prop} {cap : Nat × Nat} {a0 : Nat} {a1 : Int32} {h h' : PH} {q : Nat} (hf : fX2_question D cap a0 a1 h = some (.inr q, h')) : XMet l D A cap yX2_question cX2_question 4 (Option.some (Jvm.ClassFile.FieldType.object "PupilsPupil$Question")) 149 [.ref a0, .int a1] h h' (q) := by
  unfold fX2_question at hf
  refine p_headT (own := RX2) (ini := false) (pn_X2 rfl) rfl (fun q => by cases q) (Nat.le_of_ble_eq_true rfl) (fun m Z cx sx H0 ls X XT hM hl => ?_)
  have G := X.g
  have hl : lv_has ls 4 [(0, .ref a0), (1, .int a1)] := hl
  refine g_aload_n G dX2_question_0 rfl (lv_at hl 0 rfl) ?_
  refine g_iload_n G dX2_question_1 rfl (lv_at hl 1 rfl) ?_
  obtain ⟨h1, g1, hf⟩ := bnv_open hf
  refine p_put (k := 1) X hM pc_2 (by decide) q350 rfl rfl rfl rfl g1 dX2_question_2 (fun H locs hM => ?_)
  refine g_aload_n G dX2_question_5 rfl (lv_at hl 0 rfl) ?_
  refine g_iconst (v := 0) G dX2_question_6 rfl ?_
  obtain ⟨h2, g2, hf⟩ := bnv_open hf
  refine p_put (k := 2) X hM pc_2 (by decide) q351 rfl rfl rfl rfl g2 dX2_question_7 (fun H locs hM => ?_)
  refine g_aload_n G dX2_question_10 rfl (lv_at hl 0 rfl) ?_
  refine g_iconst (v := 0) G dX2_question_11 rfl ?_
  obtain ⟨h3, g3, hf⟩ := bnv_open hf
  refine p_put (k := 4) X hM pc_2 (by decide) q353 rfl rfl rfl rfl g3 dX2_question_12 (fun H locs hM => ?_)
  refine g_aload_n G dX2_question_15 rfl (lv_at hl 0 rfl) ?_
  refine g_sipush (v := 3999) G dX2_question_16 rfl ?_
  obtain ⟨h4, g4, hf⟩ := bnv_open hf
  refine p_put (k := 5) X hM pc_2 (by decide) q354 rfl rfl rfl rfl g4 dX2_question_19 (fun H locs hM => ?_)
  refine g_aload_n G dX2_question_22 rfl (lv_at hl 0 rfl) ?_
  obtain ⟨b1, hf⟩ := ckc_open hf
  refine bnx_split hf (fun g6 => ?_) (fun p1 h5 g5 hf => ?_)
  · exact p_callT (ci := 2) (As := []) (rest := []) XT hM hl rfl b1 pcy_X2_word q559 q561 qs8 (xX2_word g6) rfl (Nat.le_of_ble_eq_true rfl) (Nat.le_of_ble_eq_true rfl) rfl dX2_question_23
  refine p_callV_r (ci := 2) (As := []) (rest := []) X hM hl rfl b1 pcy_X2_word q559 q561 qs8 (kX2_word g5) rfl (Nat.le_of_ble_eq_true rfl) (Nat.le_of_ble_eq_true rfl) rfl dX2_question_23 (fun H locs hM => ?_)
  obtain ⟨p2, g7, hf⟩ := vA_open hf
  refine p_getsN X hM (i := 3) rfl q1554 dX2_question_26 ?_
  rw [Option.some.inj g7]
  obtain ⟨r1, h6, g8, hf⟩ := bnd_open hf
  refine p_callSN_r (As := [.ref p1, .ref p2]) (rest := []) X hM hl pcy_X0_find q740 q741 (kX0_find g8) rfl (Nat.le_of_ble_eq_true rfl) (Nat.le_of_ble_eq_true rfl) rfl dX2_question_29 (fun H locs hM => ?_)
  refine g_istore_n (i := 2) (lv' := [(2, .int r1), (0, .ref a0), (1, .int a1)]) G dX2_question_32 rfl hl (Nat.le_of_ble_eq_true rfl) rfl (fun ls hl => ?_)
  refine g_iload_n G dX2_question_33 rfl (lv_at hl 0 rfl) ?_
  refine g_iconst (v := (-1)) G dX2_question_34 rfl ?_
  refine g_icmp_ne (tgt := 48) G dX2_question_35 rfl (fun c1 => ?_) (fun c1 => ?_)
  · have hf := it_neg c1 hf
    refine g_iload_n G dX2_question_48 rfl (lv_at hl 0 rfl) ?_
    refine g_iconst (v := 3) G dX2_question_49 rfl ?_
    obtain ⟨j82, ej82, hf⟩ := jn_open hf
    have J82 : ∀ (x1 : Nat) (h7 : PH) (H : Heap) (locs : List Loc), j82 x1 h7 = some (.inr q, h') → PI D A cap H0 h7 H locs → ∀ ls : Array Slot, lv_has ls 4 [(0, .ref a0)] → Z H locs (cx H) (sx H) (F0 m 82 ls [.ref x1]) := by
      intro x1 h7 H locs hf hM ls hl
      rw [ej82] at hf
      refine g_astore_n (i := 3) (lv' := [(3, .ref x1), (0, .ref a0)]) G dX2_question_82 rfl hl (Nat.le_of_ble_eq_true rfl) rfl (fun ls hl => ?_)
      refine g_aload_n G dX2_question_83 rfl (lv_at hl 1 rfl) ?_
      obtain ⟨b2, hf⟩ := ckc_open hf
      obtain ⟨r2, h8, g9, hf⟩ := bnd_open hf
      refine p_callV_r (ci := 2) (As := []) (rest := []) X hM hl rfl b2 pcy_X2_here q543 q545 qs4 (kX2_here g9) rfl (Nat.le_of_ble_eq_true rfl) (Nat.le_of_ble_eq_true rfl) rfl dX2_question_84 (fun H locs hM => ?_)
      refine g_iconst (v := (-1)) G dX2_question_87 rfl ?_
      refine g_icmp_eq (tgt := 101) G dX2_question_88 rfl (fun c2 => ?_) (fun c2 => ?_)
      · have hf := it_pos c2 hf
        refine g_aload_n G dX2_question_101 rfl (lv_at hl 0 rfl) ?_
        exact absurd hf (by intro z; cases z)
      · have hf := it_neg c2 hf
        refine g_aload_n G dX2_question_91 rfl (lv_at hl 1 rfl) ?_
        refine g_iconst (v := 1) G dX2_question_92 rfl ?_
        refine g_aload_n G dX2_question_93 rfl (lv_at hl 1 rfl) ?_
        obtain ⟨v1, g10, hf⟩ := vI_open hf
        refine p_get (k := 2) X hM pc_2 (by decide) q351 rfl g10 dX2_question_94 ?_
        obtain ⟨b3, hf⟩ := ckc_open hf
        obtain ⟨p3, h9, g11, hf⟩ := bnd_open hf
        refine p_callV_r (ci := 2) (As := [.int 1, .int v1]) (rest := []) X hM hl rfl b3 pcy_X2_wrong q555 q557 qs7 (kX2_wrong g11) rfl (Nat.le_of_ble_eq_true rfl) (Nat.le_of_ble_eq_true rfl) rfl dX2_question_97 (fun H locs hM => ?_)
        cases hf
        exact p_athrow XT hM dX2_question_100
    refine g_icmp_ge (tgt := 69) G dX2_question_50 rfl (fun c3 => ?_) (fun c3 => ?_)
    · have hf := it_pos c3 hf
      obtain ⟨p4, h10, g12, hf⟩ := bnd_open hf
      refine p_new X hM pc_20 q1556 q1557 q183 (by decide +kernel) g12 dX2_question_69 (fun H locs hM => ?_)
      refine g_dup G dX2_question_72 rfl ?_
      refine g_iload_n G dX2_question_73 rfl (lv_at hl 0 rfl) ?_
      refine g_null G dX2_question_74 ?_
      refine g_aload_n G dX2_question_75 rfl (lv_at hl 1 rfl) ?_
      obtain ⟨b4, hf⟩ := ckc_open hf
      refine bnx_split hf (fun g14 => ?_) (fun p5 h11 g13 hf => ?_)
      · exact p_callT (ci := 2) (As := []) (rest := [.null, .int r1, .ref p4, .ref p4]) XT hM hl rfl b4 pcy_X2_sum q1000 q1002 qs28 (xvSumT g14) rfl (Nat.le_of_ble_eq_true rfl) (Nat.le_of_ble_eq_true rfl) rfl dX2_question_76
      refine p_callV_r (ci := 2) (As := []) (rest := [.null, .int r1, .ref p4, .ref p4]) X hM hl rfl b4 pcy_X2_sum q1000 q1002 qs28 (kvSumT g13) rfl (Nat.le_of_ble_eq_true rfl) (Nat.le_of_ble_eq_true rfl) rfl dX2_question_76 (fun H locs hM => ?_)
      obtain ⟨h12, g15, hf⟩ := bnv_open hf
      refine p_callI_v (As := [.int r1, va_rf none, va_rf (some p5)]) (rest := [.ref p4]) X hM hl pcy_X20_init rfl q1558 q1559 (kX20_init g15) rfl (Nat.le_of_ble_eq_true rfl) (Nat.le_of_ble_eq_true rfl) rfl dX2_question_79 (fun H locs hM => ?_)
      exact J82 _ _ _ _ hf hM ls (lv_sub hl [1] rfl)
    · have hf := it_neg c3 hf
      obtain ⟨p6, h13, g16, hf⟩ := bnd_open hf
      refine p_new X hM pc_20 q1556 q1557 q183 (by decide +kernel) g16 dX2_question_53 (fun H locs hM => ?_)
      refine g_dup G dX2_question_56 rfl ?_
      refine g_iload_n G dX2_question_57 rfl (lv_at hl 0 rfl) ?_
      refine g_aload_n G dX2_question_58 rfl (lv_at hl 1 rfl) ?_
      obtain ⟨b5, hf⟩ := ckc_open hf
      refine bnx_split hf (fun g18 => ?_) (fun p7 h14 g17 hf => ?_)
      · exact p_callT (ci := 2) (As := []) (rest := [.int r1, .ref p6, .ref p6]) XT hM hl rfl b5 pcy_X2_test q938 q940 qs22 (xvTestT g18) rfl (Nat.le_of_ble_eq_true rfl) (Nat.le_of_ble_eq_true rfl) rfl dX2_question_59
      refine p_callV_r (ci := 2) (As := []) (rest := [.int r1, .ref p6, .ref p6]) X hM hl rfl b5 pcy_X2_test q938 q940 qs22 (kvTestT g17) rfl (Nat.le_of_ble_eq_true rfl) (Nat.le_of_ble_eq_true rfl) rfl dX2_question_59 (fun H locs hM => ?_)
      refine g_null G dX2_question_62 ?_
      obtain ⟨h15, g19, hf⟩ := bnv_open hf
      refine p_callI_v (As := [.int r1, va_rf (some p7), va_rf none]) (rest := [.ref p6]) X hM hl pcy_X20_init rfl q1558 q1559 (kX20_init g19) rfl (Nat.le_of_ble_eq_true rfl) (Nat.le_of_ble_eq_true rfl) rfl dX2_question_63 (fun H locs hM => ?_)
      refine g_goto (tgt := 82) G dX2_question_66 rfl ?_
      exact J82 _ _ _ _ hf hM ls (lv_sub hl [1] rfl)
  · have hf := it_pos c1 hf
    refine g_aload_n G dX2_question_38 rfl (lv_at hl 1 rfl) ?_
    refine g_iconst (v := 1) G dX2_question_39 rfl ?_
    refine g_aload_n G dX2_question_40 rfl (lv_at hl 1 rfl) ?_
    obtain ⟨v2, g20, hf⟩ := vI_open hf
    refine p_get (k := 3) X hM pc_2 (by decide) q352 rfl g20 dX2_question_41 ?_
    obtain ⟨b6, hf⟩ := ckc_open hf
    obtain ⟨p8, h16, g21, hf⟩ := bnd_open hf
    refine p_callV_r (ci := 2) (As := [.int 1, .int v2]) (rest := []) X hM hl rfl b6 pcy_X2_wrong q555 q557 qs7 (kX2_wrong g21) rfl (Nat.le_of_ble_eq_true rfl) (Nat.le_of_ble_eq_true rfl) rfl dX2_question_44 (fun H locs hM => ?_)
    cases hf
    exact p_athrow XT hM dX2_question_47
