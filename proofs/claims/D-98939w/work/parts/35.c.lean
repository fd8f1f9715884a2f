/-! PART 35.c (printed by dc.py, mkc.py) -/
set_option maxRecDepth 100000
theorem pcy_X2_within : pcY yX2_within cX2_within 4 (Option.some (Jvm.ClassFile.FieldType.object "PupilsPupil$Value")) 1 := ⟨q1056, q150, ⟨by decide +kernel, by decide +kernel, by decide +kernel⟩, Nat.le_of_ble_eq_true rfl⟩
theorem pcy_X2_looked : pcY yX2_looked cX2_looked 3 (Option.some (Jvm.ClassFile.FieldType.object "PupilsPupil$Value")) 1 := ⟨q1100, q150, ⟨by decide +kernel, by decide +kernel, by decide +kernel⟩, Nat.le_of_ble_eq_true rfl⟩
theorem pcy_X2_atom : pcY yX2_atom cX2_atom 3 (Option.some (Jvm.ClassFile.FieldType.object "PupilsPupil$Value")) 0 := ⟨q1052, q150, ⟨by decide +kernel, by decide +kernel, by decide +kernel⟩, Nat.le_of_ble_eq_true rfl⟩
theorem pcy_X2_product : pcY yX2_product cX2_product 3 (Option.some (Jvm.ClassFile.FieldType.object "PupilsPupil$Value")) 0 := ⟨q1048, q150, ⟨by decide +kernel, by decide +kernel, by decide +kernel⟩, Nat.le_of_ble_eq_true rfl⟩
theorem pcy_X2_sum : pcY yX2_sum cX2_sum 3 (Option.some (Jvm.ClassFile.FieldType.object "PupilsPupil$Value")) 0 := ⟨q1003, q150, ⟨by decide +kernel, by decide +kernel, by decide +kernel⟩, Nat.le_of_ble_eq_true rfl⟩
theorem pcy_X2_fact : pcY yX2_fact cX2_fact 3 (Option.some (Jvm.ClassFile.FieldType.object "PupilsPupil$Test")) 0 := ⟨q968, q150, ⟨by decide +kernel, by decide +kernel, by decide +kernel⟩, Nat.le_of_ble_eq_true rfl⟩
theorem pcy_X2_both : pcY yX2_both cX2_both 2 (Option.some (Jvm.ClassFile.FieldType.object "PupilsPupil$Test")) 0 := ⟨q964, q150, ⟨by decide +kernel, by decide +kernel, by decide +kernel⟩, Nat.le_of_ble_eq_true rfl⟩
theorem pcy_X2_test : pcY yX2_test cX2_test 2 (Option.some (Jvm.ClassFile.FieldType.object "PupilsPupil$Test")) 0 := ⟨q941, q150, ⟨by decide +kernel, by decide +kernel, by decide +kernel⟩, Nat.le_of_ble_eq_true rfl⟩
noncomputable def fX2_within (D : PD) (cap : Nat × Nat) (rS : Nat → PH → Option ((Nat ⊕ Nat) × PH)) (a0 : Nat) (a1 : Int32) (h : PH) : Option ((Nat ⊕ Nat) × PH) :=
  ckc (pCls h a0) 2 <|
  bnd (fX2_here a0 h) fun r1 h1 =>
  if r1 = (40 : Int32) then
    vI (pF h1 a0 2 2) fun v1 =>
    ckc (pCls h1 a0) 2 <|
    bnx (fX2_opens a0 v1 h1) fun u1 h2 =>
    vI (pF h2 a0 2 2) fun v2 =>
    bnv (pPut h2 a0 2 2 (.int (v2 + 1))) fun h3 =>
    ckc (pCls h3 a0) 2 <|
    bnx (rS a0 h3) fun p1 h4 =>
    jn (fun (x1 : Nat) (h5 : PH) =>
      ckc (pCls h5 a0) 2 <|
      bnx (fX2_must a0 41 h5) fun u2 h6 =>
      vI (pF h6 a0 2 4) fun v3 =>
      bnv (pPut h6 a0 2 4 (.int (v3 - 1))) fun h7 =>
      some (.inl x1, h7)) fun j77 =>
    if a1 ≤ 0 then
      j77 p1 h4
    else
      ckc (pCls h4 a0) 2 <|
      bnx (fX2_must a0 44 h4) fun u3 h8 =>
      bnd (pNew cap h8 (.inr (15, [.int 0, .null, .null])) 3) fun p2 h9 =>
      jn (fun (x2 : Bool) (h10 : PH) =>
        ckc (pCls h10 a0) 2 <|
        bnx (rS a0 h10) fun p3 h11 =>
        bnv (fX15_init p2 x2 p1 p3 h11) fun h12 =>
        j77 p2 h12) fun j68 =>
      if a1 = (2 : Int32) then
        j68 true h9
      else
        j68 false h9
  else
    vI (pF h1 a0 2 2) fun v4 =>
    ckc (pCls h1 a0) 2 <|
    bnd (fX2_wrong a0 1 v4 h1) fun p4 h13 =>
    some (.inr p4, h13)
set_option maxHeartbeats 1000000 in
theorem kX2_within {l : Launch} {D : PD} {A : Nat → Prop} {cap : Nat × Nat} {d : Nat} (hd : 4 ≤ d) {rS : Nat → PH → Option ((Nat ⊕ Nat) × PH)} {dS : Nat} (okS : OkR l D A cap yX2_sum cX2_sum 3 (Option.some (Jvm.ClassFile.FieldType.object "PupilsPupil$Value")) dS rS) (hdS : dS + 1 ≤ d) {a0 : Nat} {a1 : Int32} {h h' : PH} {r : Nat} (hf : fX2_within D cap rS a0 a1 h = some (.inl r, h')) : CMet l D A cap yX2_within cX2_within 4 (Option.some (Jvm.ClassFile.FieldType.object "PupilsPupil$Value")) d [.ref a0, .int a1] h h' (some (.ref r)) := by
  unfold fX2_within at hf
  refine p_head (own := RX2) (ini := false) (pn_X2 rfl) rfl (fun q => by cases q) (Nat.le_of_ble_eq_true rfl) (fun m Z cx sx H0 ls X hM hl => ?_)
  have G := X.g
  have hl : lv_has ls 4 [(0, .ref a0), (1, .int a1)] := hl
  refine g_aload_n G dX2_within_0 rfl (lv_at hl 0 rfl) ?_
  obtain ⟨b1, hf⟩ := ckc_open hf
  obtain ⟨r1, h1, g1, hf⟩ := bnd_open hf
  refine p_callV_r (ci := 2) (As := []) (rest := []) X hM hl rfl b1 pcy_X2_here q543 q545 qs4 (kX2_here g1) rfl (Nat.lt_of_lt_of_le (by decide) hd) (Nat.le_of_ble_eq_true rfl) rfl dX2_within_1 (fun H locs hM => ?_)
  refine g_bipush (v := 40) G dX2_within_4 rfl ?_
  refine g_icmp_eq (tgt := 19) G dX2_within_6 rfl (fun c1 => ?_) (fun c1 => ?_)
  · have hf := it_pos c1 hf
    refine g_aload_n G dX2_within_19 rfl (lv_at hl 0 rfl) ?_
    refine g_aload_n G dX2_within_20 rfl (lv_at hl 0 rfl) ?_
    obtain ⟨v1, g2, hf⟩ := vI_open hf
    refine p_get (k := 2) X hM pc_2 (by decide) q351 rfl g2 dX2_within_21 ?_
    obtain ⟨b2, hf⟩ := ckc_open hf
    obtain ⟨u1, h2, g3, hf⟩ := bnx_ret hf
    refine p_callV_v (ci := 2) (As := [.int v1]) (rest := []) X hM hl rfl b2 pcy_X2_opens q969 q971 qs25 (kX2_opens g3) rfl (Nat.lt_of_lt_of_le (by decide) hd) (Nat.le_of_ble_eq_true rfl) rfl dX2_within_24 (fun H locs hM => ?_)
    refine g_aload_n G dX2_within_27 rfl (lv_at hl 0 rfl) ?_
    refine g_dup G dX2_within_28 rfl ?_
    obtain ⟨v2, g5, hf⟩ := vI_open hf
    refine p_get (k := 2) X hM pc_2 (by decide) q351 rfl g5 dX2_within_29 ?_
    refine g_iconst (v := 1) G dX2_within_32 rfl ?_
    refine g_iadd G dX2_within_33 ?_
    obtain ⟨h3, g6, hf⟩ := bnv_open hf
    refine p_put (k := 2) X hM pc_2 (by decide) q351 rfl rfl rfl rfl g6 dX2_within_34 (fun H locs hM => ?_)
    refine g_aload_n G dX2_within_37 rfl (lv_at hl 0 rfl) ?_
    obtain ⟨b3, hf⟩ := ckc_open hf
    obtain ⟨p1, h4, g7, hf⟩ := bnx_ret hf
    refine p_callV_r (ci := 2) (As := []) (rest := []) X hM hl rfl b3 pcy_X2_sum q1000 q1002 qs28 (okS.1 _ _ _ _ g7) rfl (by omega) (Nat.le_of_ble_eq_true rfl) rfl dX2_within_38 (fun H locs hM => ?_)
    refine g_astore_n (i := 2) (lv' := [(2, .ref p1), (0, .ref a0), (1, .int a1)]) G dX2_within_41 rfl hl (Nat.le_of_ble_eq_true rfl) rfl (fun ls hl => ?_)
    refine g_aload_n G dX2_within_42 rfl (lv_at hl 0 rfl) ?_
    refine g_astore_n (i := 3) (lv' := [(3, .ref p1), (2, .ref p1), (0, .ref a0), (1, .int a1)]) G dX2_within_43 rfl hl (Nat.le_of_ble_eq_true rfl) rfl (fun ls hl => ?_)
    refine g_iload_n G dX2_within_44 rfl (lv_at hl 3 rfl) ?_
    obtain ⟨j77, ej77, hf⟩ := jn_open hf
    have J77 : ∀ (x1 : Nat) (h5 : PH) (H : Heap) (locs : List Loc), j77 x1 h5 = some (.inl r, h') → PI D A cap H0 h5 H locs → ∀ ls : Array Slot, lv_has ls 4 [(0, .ref a0), (3, .ref x1)] → Z H locs (cx H) (sx H) (F0 m 77 ls []) := by
      intro x1 h5 H locs hf hM ls hl
      rw [ej77] at hf
      refine g_aload_n G dX2_within_77 rfl (lv_at hl 0 rfl) ?_
      refine g_bipush (v := 41) G dX2_within_78 rfl ?_
      obtain ⟨b4, hf⟩ := ckc_open hf
      obtain ⟨u2, h6, g9, hf⟩ := bnx_ret hf
      refine p_callV_v (ci := 2) (As := [.int 41]) (rest := []) X hM hl rfl b4 pcy_X2_must q973 q975 qs26 (kX2_must g9) rfl (Nat.lt_of_lt_of_le (by decide) hd) (Nat.le_of_ble_eq_true rfl) rfl dX2_within_80 (fun H locs hM => ?_)
      refine g_aload_n G dX2_within_83 rfl (lv_at hl 0 rfl) ?_
      refine g_dup G dX2_within_84 rfl ?_
      obtain ⟨v3, g11, hf⟩ := vI_open hf
      refine p_get (k := 4) X hM pc_2 (by decide) q353 rfl g11 dX2_within_85 ?_
      refine g_iconst (v := 1) G dX2_within_88 rfl ?_
      refine g_isub G dX2_within_89 ?_
      obtain ⟨h7, g12, hf⟩ := bnv_open hf
      refine p_put (k := 4) X hM pc_2 (by decide) q353 rfl rfl rfl rfl g12 dX2_within_90 (fun H locs hM => ?_)
      refine g_aload_n G dX2_within_93 rfl (lv_at hl 1 rfl) ?_
      cases hf
      exact p_aret X (Or.inl ⟨_, rfl⟩) hM rfl dX2_within_94
    refine g_if_le (tgt := 77) G dX2_within_45 rfl (fun c2 => ?_) (fun c2 => ?_)
    · have hf := it_pos c2 hf
      exact J77 _ _ _ _ hf hM ls (lv_sub hl [2, 0] rfl)
    · have hf := it_neg c2 hf
      refine g_aload_n G dX2_within_48 rfl (lv_at hl 2 rfl) ?_
      refine g_bipush (v := 44) G dX2_within_49 rfl ?_
      obtain ⟨b5, hf⟩ := ckc_open hf
      obtain ⟨u3, h8, g13, hf⟩ := bnx_ret hf
      refine p_callV_v (ci := 2) (As := [.int 44]) (rest := []) X hM hl rfl b5 pcy_X2_must q973 q975 qs26 (kX2_must g13) rfl (Nat.lt_of_lt_of_le (by decide) hd) (Nat.le_of_ble_eq_true rfl) rfl dX2_within_51 (fun H locs hM => ?_)
      obtain ⟨p2, h9, g15, hf⟩ := bnd_open hf
      refine p_new X hM pc_15 q1057 q1058 q177 (by decide +kernel) g15 dX2_within_54 (fun H locs hM => ?_)
      refine g_dup G dX2_within_57 rfl ?_
      refine g_iload_n G dX2_within_58 rfl (lv_at hl 3 rfl) ?_
      refine g_iconst (v := 2) G dX2_within_59 rfl ?_
      obtain ⟨j68, ej68, hf⟩ := jn_open hf
      have J68 : ∀ (x2 : Bool) (h10 : PH) (H : Heap) (locs : List Loc), j68 x2 h10 = some (.inl r, h') → PI D A cap H0 h10 H locs → ∀ ls : Array Slot, lv_has ls 4 [(0, .ref a0), (2, .ref p1)] → Z H locs (cx H) (sx H) (F0 m 68 ls [.int (bI x2), .ref p2, .ref p2]) := by
        intro x2 h10 H locs hf hM ls hl
        rw [ej68] at hf
        refine g_aload_n G dX2_within_68 rfl (lv_at hl 1 rfl) ?_
        refine g_aload_n G dX2_within_69 rfl (lv_at hl 0 rfl) ?_
        obtain ⟨b6, hf⟩ := ckc_open hf
        obtain ⟨p3, h11, g16, hf⟩ := bnx_ret hf
        refine p_callV_r (ci := 2) (As := []) (rest := [.ref p1, .int (bI x2), .ref p2, .ref p2]) X hM hl rfl b6 pcy_X2_sum q1000 q1002 qs28 (okS.1 _ _ _ _ g16) rfl (by omega) (Nat.le_of_ble_eq_true rfl) rfl dX2_within_70 (fun H locs hM => ?_)
        obtain ⟨h12, g18, hf⟩ := bnv_open hf
        refine p_callI_v (As := [.int (bI x2), .ref p1, .ref p3]) (rest := [.ref p2]) X hM hl pcy_X15_init rfl q1059 q1060 (kX15_init g18) rfl (Nat.lt_of_lt_of_le (by decide) hd) (Nat.le_of_ble_eq_true rfl) rfl dX2_within_73 (fun H locs hM => ?_)
        refine g_astore_n (i := 3) (lv' := [(3, .ref p2), (0, .ref a0), (2, .ref p1)]) G dX2_within_76 rfl hl (Nat.le_of_ble_eq_true rfl) rfl (fun ls hl => ?_)
        exact J77 _ _ _ _ hf hM ls (lv_sub hl [1, 0] rfl)
      refine g_icmp_ne (tgt := 67) G dX2_within_60 rfl (fun c3 => ?_) (fun c3 => ?_)
      · have hf := it_neg c3 hf
        refine g_iconst (v := 0) G dX2_within_67 rfl ?_
        exact J68 _ _ _ _ hf hM ls (lv_sub hl [2, 1] rfl)
      · have hf := it_pos c3 hf
        refine g_iconst (v := 1) G dX2_within_63 rfl ?_
        refine g_goto (tgt := 68) G dX2_within_64 rfl ?_
        exact J68 _ _ _ _ hf hM ls (lv_sub hl [2, 1] rfl)
  · have hf := it_neg c1 hf
    refine g_aload_n G dX2_within_9 rfl (lv_at hl 0 rfl) ?_
    refine g_iconst (v := 1) G dX2_within_10 rfl ?_
    refine g_aload_n G dX2_within_11 rfl (lv_at hl 0 rfl) ?_
    obtain ⟨v4, g19, hf⟩ := vI_open hf
    refine p_get (k := 2) X hM pc_2 (by decide) q351 rfl g19 dX2_within_12 ?_
    obtain ⟨b7, hf⟩ := ckc_open hf
    obtain ⟨p4, h13, g20, hf⟩ := bnd_open hf
    refine p_callV_r (ci := 2) (As := [.int 1, .int v4]) (rest := []) X hM hl rfl b7 pcy_X2_wrong q555 q557 qs7 (kX2_wrong g20) rfl (Nat.lt_of_lt_of_le (by decide) hd) (Nat.le_of_ble_eq_true rfl) rfl dX2_within_15 (fun H locs hM => ?_)
    exact absurd hf (by intro z; cases z)
set_option maxHeartbeats 1000000 in
theorem xX2_within {l : Launch} {D : PD} {A : Nat → Prop} {cap : Nat × Nat} {d : Nat} (hd : 4 ≤ d) {rS : Nat → PH → Option ((Nat ⊕ Nat) × PH)} {dS : Nat} (okS : OkR l D A cap yX2_sum cX2_sum 3 (Option.some (Jvm.ClassFile.FieldType.object "PupilsPupil$Value")) dS rS) (hdS : dS + 1 ≤ d) {a0 : Nat} {a1 : Int32} {h h' : PH} {q : Nat} (hf : fX2_within D cap rS a0 a1 h = some (.inr q, h')) : XMet l D A cap yX2_within cX2_within 4 (Option.some (Jvm.ClassFile.FieldType.object "PupilsPupil$Value")) d [.ref a0, .int a1] h h' (q) := by
  unfold fX2_within at hf
  refine p_headT (own := RX2) (ini := false) (pn_X2 rfl) rfl (fun q => by cases q) (Nat.le_of_ble_eq_true rfl) (fun m Z cx sx H0 ls X XT hM hl => ?_)
  have G := X.g
  have hl : lv_has ls 4 [(0, .ref a0), (1, .int a1)] := hl
  refine g_aload_n G dX2_within_0 rfl (lv_at hl 0 rfl) ?_
  obtain ⟨b1, hf⟩ := ckc_open hf
  obtain ⟨r1, h1, g1, hf⟩ := bnd_open hf
  refine p_callV_r (ci := 2) (As := []) (rest := []) X hM hl rfl b1 pcy_X2_here q543 q545 qs4 (kX2_here g1) rfl (Nat.lt_of_lt_of_le (by decide) hd) (Nat.le_of_ble_eq_true rfl) rfl dX2_within_1 (fun H locs hM => ?_)
  refine g_bipush (v := 40) G dX2_within_4 rfl ?_
  refine g_icmp_eq (tgt := 19) G dX2_within_6 rfl (fun c1 => ?_) (fun c1 => ?_)
  · have hf := it_pos c1 hf
    refine g_aload_n G dX2_within_19 rfl (lv_at hl 0 rfl) ?_
    refine g_aload_n G dX2_within_20 rfl (lv_at hl 0 rfl) ?_
    obtain ⟨v1, g2, hf⟩ := vI_open hf
    refine p_get (k := 2) X hM pc_2 (by decide) q351 rfl g2 dX2_within_21 ?_
    obtain ⟨b2, hf⟩ := ckc_open hf
    refine bnx_split hf (fun g4 => ?_) (fun u1 h2 g3 hf => ?_)
    · exact p_callT (ci := 2) (As := [.int v1]) (rest := []) XT hM hl rfl b2 pcy_X2_opens q969 q971 qs25 (xX2_opens g4) rfl (Nat.lt_of_lt_of_le (by decide) hd) (Nat.le_of_ble_eq_true rfl) rfl dX2_within_24
    refine p_callV_v (ci := 2) (As := [.int v1]) (rest := []) X hM hl rfl b2 pcy_X2_opens q969 q971 qs25 (kX2_opens g3) rfl (Nat.lt_of_lt_of_le (by decide) hd) (Nat.le_of_ble_eq_true rfl) rfl dX2_within_24 (fun H locs hM => ?_)
    refine g_aload_n G dX2_within_27 rfl (lv_at hl 0 rfl) ?_
    refine g_dup G dX2_within_28 rfl ?_
    obtain ⟨v2, g5, hf⟩ := vI_open hf
    refine p_get (k := 2) X hM pc_2 (by decide) q351 rfl g5 dX2_within_29 ?_
    refine g_iconst (v := 1) G dX2_within_32 rfl ?_
    refine g_iadd G dX2_within_33 ?_
    obtain ⟨h3, g6, hf⟩ := bnv_open hf
    refine p_put (k := 2) X hM pc_2 (by decide) q351 rfl rfl rfl rfl g6 dX2_within_34 (fun H locs hM => ?_)
    refine g_aload_n G dX2_within_37 rfl (lv_at hl 0 rfl) ?_
    obtain ⟨b3, hf⟩ := ckc_open hf
    refine bnx_split hf (fun g8 => ?_) (fun p1 h4 g7 hf => ?_)
    · exact p_callT (ci := 2) (As := []) (rest := []) XT hM hl rfl b3 pcy_X2_sum q1000 q1002 qs28 (okS.2 _ _ _ _ g8) rfl (by omega) (Nat.le_of_ble_eq_true rfl) rfl dX2_within_38
    refine p_callV_r (ci := 2) (As := []) (rest := []) X hM hl rfl b3 pcy_X2_sum q1000 q1002 qs28 (okS.1 _ _ _ _ g7) rfl (by omega) (Nat.le_of_ble_eq_true rfl) rfl dX2_within_38 (fun H locs hM => ?_)
    refine g_astore_n (i := 2) (lv' := [(2, .ref p1), (0, .ref a0), (1, .int a1)]) G dX2_within_41 rfl hl (Nat.le_of_ble_eq_true rfl) rfl (fun ls hl => ?_)
    refine g_aload_n G dX2_within_42 rfl (lv_at hl 0 rfl) ?_
    refine g_astore_n (i := 3) (lv' := [(3, .ref p1), (2, .ref p1), (0, .ref a0), (1, .int a1)]) G dX2_within_43 rfl hl (Nat.le_of_ble_eq_true rfl) rfl (fun ls hl => ?_)
    refine g_iload_n G dX2_within_44 rfl (lv_at hl 3 rfl) ?_
    obtain ⟨j77, ej77, hf⟩ := jn_open hf
    have J77 : ∀ (x1 : Nat) (h5 : PH) (H : Heap) (locs : List Loc), j77 x1 h5 = some (.inr q, h') → PI D A cap H0 h5 H locs → ∀ ls : Array Slot, lv_has ls 4 [(0, .ref a0), (3, .ref x1)] → Z H locs (cx H) (sx H) (F0 m 77 ls []) := by
      intro x1 h5 H locs hf hM ls hl
      rw [ej77] at hf
      refine g_aload_n G dX2_within_77 rfl (lv_at hl 0 rfl) ?_
      refine g_bipush (v := 41) G dX2_within_78 rfl ?_
      obtain ⟨b4, hf⟩ := ckc_open hf
      refine bnx_split hf (fun g10 => ?_) (fun u2 h6 g9 hf => ?_)
      · exact p_callT (ci := 2) (As := [.int 41]) (rest := []) XT hM hl rfl b4 pcy_X2_must q973 q975 qs26 (xX2_must g10) rfl (Nat.lt_of_lt_of_le (by decide) hd) (Nat.le_of_ble_eq_true rfl) rfl dX2_within_80
      refine p_callV_v (ci := 2) (As := [.int 41]) (rest := []) X hM hl rfl b4 pcy_X2_must q973 q975 qs26 (kX2_must g9) rfl (Nat.lt_of_lt_of_le (by decide) hd) (Nat.le_of_ble_eq_true rfl) rfl dX2_within_80 (fun H locs hM => ?_)
      refine g_aload_n G dX2_within_83 rfl (lv_at hl 0 rfl) ?_
      refine g_dup G dX2_within_84 rfl ?_
      obtain ⟨v3, g11, hf⟩ := vI_open hf
      refine p_get (k := 4) X hM pc_2 (by decide) q353 rfl g11 dX2_within_85 ?_
      refine g_iconst (v := 1) G dX2_within_88 rfl ?_
      refine g_isub G dX2_within_89 ?_
      obtain ⟨h7, g12, hf⟩ := bnv_open hf
      refine p_put (k := 4) X hM pc_2 (by decide) q353 rfl rfl rfl rfl g12 dX2_within_90 (fun H locs hM => ?_)
      refine g_aload_n G dX2_within_93 rfl (lv_at hl 1 rfl) ?_
      exact absurd hf (by intro z; cases z)
    refine g_if_le (tgt := 77) G dX2_within_45 rfl (fun c2 => ?_) (fun c2 => ?_)
    · have hf := it_pos c2 hf
      exact J77 _ _ _ _ hf hM ls (lv_sub hl [2, 0] rfl)
    · have hf := it_neg c2 hf
      refine g_aload_n G dX2_within_48 rfl (lv_at hl 2 rfl) ?_
      refine g_bipush (v := 44) G dX2_within_49 rfl ?_
      obtain ⟨b5, hf⟩ := ckc_open hf
      refine bnx_split hf (fun g14 => ?_) (fun u3 h8 g13 hf => ?_)
      · exact p_callT (ci := 2) (As := [.int 44]) (rest := []) XT hM hl rfl b5 pcy_X2_must q973 q975 qs26 (xX2_must g14) rfl (Nat.lt_of_lt_of_le (by decide) hd) (Nat.le_of_ble_eq_true rfl) rfl dX2_within_51
      refine p_callV_v (ci := 2) (As := [.int 44]) (rest := []) X hM hl rfl b5 pcy_X2_must q973 q975 qs26 (kX2_must g13) rfl (Nat.lt_of_lt_of_le (by decide) hd) (Nat.le_of_ble_eq_true rfl) rfl dX2_within_51 (fun H locs hM => ?_)
      obtain ⟨p2, h9, g15, hf⟩ := bnd_open hf
      refine p_new X hM pc_15 q1057 q1058 q177 (by decide +kernel) g15 dX2_within_54 (fun H locs hM => ?_)
      refine g_dup G dX2_within_57 rfl ?_
      refine g_iload_n G dX2_within_58 rfl (lv_at hl 3 rfl) ?_
      refine g_iconst (v := 2) G dX2_within_59 rfl ?_
      obtain ⟨j68, ej68, hf⟩ := jn_open hf
      have J68 : ∀ (x2 : Bool) (h10 : PH) (H : Heap) (locs : List Loc), j68 x2 h10 = some (.inr q, h') → PI D A cap H0 h10 H locs → ∀ ls : Array Slot, lv_has ls 4 [(0, .ref a0), (2, .ref p1)] → Z H locs (cx H) (sx H) (F0 m 68 ls [.int (bI x2), .ref p2, .ref p2]) := by
        intro x2 h10 H locs hf hM ls hl
        rw [ej68] at hf
        refine g_aload_n G dX2_within_68 rfl (lv_at hl 1 rfl) ?_
        refine g_aload_n G dX2_within_69 rfl (lv_at hl 0 rfl) ?_
        obtain ⟨b6, hf⟩ := ckc_open hf
        refine bnx_split hf (fun g17 => ?_) (fun p3 h11 g16 hf => ?_)
        · exact p_callT (ci := 2) (As := []) (rest := [.ref p1, .int (bI x2), .ref p2, .ref p2]) XT hM hl rfl b6 pcy_X2_sum q1000 q1002 qs28 (okS.2 _ _ _ _ g17) rfl (by omega) (Nat.le_of_ble_eq_true rfl) rfl dX2_within_70
        refine p_callV_r (ci := 2) (As := []) (rest := [.ref p1, .int (bI x2), .ref p2, .ref p2]) X hM hl rfl b6 pcy_X2_sum q1000 q1002 qs28 (okS.1 _ _ _ _ g16) rfl (by omega) (Nat.le_of_ble_eq_true rfl) rfl dX2_within_70 (fun H locs hM => ?_)
        obtain ⟨h12, g18, hf⟩ := bnv_open hf
        refine p_callI_v (As := [.int (bI x2), .ref p1, .ref p3]) (rest := [.ref p2]) X hM hl pcy_X15_init rfl q1059 q1060 (kX15_init g18) rfl (Nat.lt_of_lt_of_le (by decide) hd) (Nat.le_of_ble_eq_true rfl) rfl dX2_within_73 (fun H locs hM => ?_)
        refine g_astore_n (i := 3) (lv' := [(3, .ref p2), (0, .ref a0), (2, .ref p1)]) G dX2_within_76 rfl hl (Nat.le_of_ble_eq_true rfl) rfl (fun ls hl => ?_)
        exact J77 _ _ _ _ hf hM ls (lv_sub hl [1, 0] rfl)
      refine g_icmp_ne (tgt := 67) G dX2_within_60 rfl (fun c3 => ?_) (fun c3 => ?_)
      · have hf := it_neg c3 hf
        refine g_iconst (v := 0) G dX2_within_67 rfl ?_
        exact J68 _ _ _ _ hf hM ls (lv_sub hl [2, 1] rfl)
      · have hf := it_pos c3 hf
        refine g_iconst (v := 1) G dX2_within_63 rfl ?_
        refine g_goto (tgt := 68) G dX2_within_64 rfl ?_
        exact J68 _ _ _ _ hf hM ls (lv_sub hl [2, 1] rfl)
  · have hf := it_neg c1 hf
    refine g_aload_n G dX2_within_9 rfl (lv_at hl 0 rfl) ?_
    refine g_iconst (v := 1) G dX2_within_10 rfl ?_
    refine g_aload_n G dX2_within_11 rfl (lv_at hl 0 rfl) ?_
    obtain ⟨v4, g19, hf⟩ := vI_open hf
    refine p_get (k := 2) X hM pc_2 (by decide) q351 rfl g19 dX2_within_12 ?_
    obtain ⟨b7, hf⟩ := ckc_open hf
    obtain ⟨p4, h13, g20, hf⟩ := bnd_open hf
    refine p_callV_r (ci := 2) (As := [.int 1, .int v4]) (rest := []) X hM hl rfl b7 pcy_X2_wrong q555 q557 qs7 (kX2_wrong g20) rfl (Nat.lt_of_lt_of_le (by decide) hd) (Nat.le_of_ble_eq_true rfl) rfl dX2_within_15 (fun H locs hM => ?_)
    cases hf
    exact p_athrow XT hM dX2_within_18
noncomputable def fX2_looked (D : PD) (cap : Nat × Nat) (rB : Nat → PH → Option ((Nat ⊕ Nat) × PH)) (a0 : Nat) (a1 : Int32) (h : PH) : Option ((Nat ⊕ Nat) × PH) :=
  vI (pF h a0 2 3) fun v1 =>
  ckc (pCls h a0) 2 <|
  bnx (fX2_opens a0 v1 h) fun u1 h1 =>
  bnd (pNew cap h1 (.inr (18, [.int 0, .null, .null])) 3) fun p1 h2 =>
  vA (pF h2 a0 2 7) fun p2 =>
  ckc (pCls h2 a0) 2 <|
  bnx (rB a0 h2) fun p3 h3 =>
  bnv (fX18_init p1 p2 a1 p3 h3) fun h4 =>
  vI (pF h4 a0 2 4) fun v2 =>
  bnv (pPut h4 a0 2 4 (.int (v2 - 1))) fun h5 =>
  some (.inl p1, h5)
set_option maxHeartbeats 1000000 in
theorem kX2_looked {l : Launch} {D : PD} {A : Nat → Prop} {cap : Nat × Nat} {d : Nat} (hd : 4 ≤ d) {rB : Nat → PH → Option ((Nat ⊕ Nat) × PH)} {dB : Nat} (okB : OkR l D A cap yX2_atom cX2_atom 3 (Option.some (Jvm.ClassFile.FieldType.object "PupilsPupil$Value")) dB rB) (hdB : dB + 1 ≤ d) {a0 : Nat} {a1 : Int32} {h h' : PH} {r : Nat} (hf : fX2_looked D cap rB a0 a1 h = some (.inl r, h')) : CMet l D A cap yX2_looked cX2_looked 3 (Option.some (Jvm.ClassFile.FieldType.object "PupilsPupil$Value")) d [.ref a0, .int a1] h h' (some (.ref r)) := by
  unfold fX2_looked at hf
  refine p_head (own := RX2) (ini := false) (pn_X2 rfl) rfl (fun q => by cases q) (Nat.le_of_ble_eq_true rfl) (fun m Z cx sx H0 ls X hM hl => ?_)
  have G := X.g
  have hl : lv_has ls 3 [(0, .ref a0), (1, .int a1)] := hl
  refine g_aload_n G dX2_looked_0 rfl (lv_at hl 0 rfl) ?_
  refine g_aload_n G dX2_looked_1 rfl (lv_at hl 0 rfl) ?_
  obtain ⟨v1, g1, hf⟩ := vI_open hf
  refine p_get (k := 3) X hM pc_2 (by decide) q352 rfl g1 dX2_looked_2 ?_
  obtain ⟨b1, hf⟩ := ckc_open hf
  obtain ⟨u1, h1, g2, hf⟩ := bnx_ret hf
  refine p_callV_v (ci := 2) (As := [.int v1]) (rest := []) X hM hl rfl b1 pcy_X2_opens q969 q971 qs25 (kX2_opens g2) rfl (Nat.lt_of_lt_of_le (by decide) hd) (Nat.le_of_ble_eq_true rfl) rfl dX2_looked_5 (fun H locs hM => ?_)
  obtain ⟨p1, h2, g4, hf⟩ := bnd_open hf
  refine p_new X hM pc_18 q1101 q1102 q180 (by decide +kernel) g4 dX2_looked_8 (fun H locs hM => ?_)
  refine g_dup G dX2_looked_11 rfl ?_
  refine g_aload_n G dX2_looked_12 rfl (lv_at hl 0 rfl) ?_
  obtain ⟨p2, g5, hf⟩ := vA_open hf
  refine p_get (k := 7) X hM pc_2 (by decide) q356 rfl g5 dX2_looked_13 ?_
  refine g_iload_n G dX2_looked_16 rfl (lv_at hl 1 rfl) ?_
  refine g_aload_n G dX2_looked_17 rfl (lv_at hl 0 rfl) ?_
  obtain ⟨b2, hf⟩ := ckc_open hf
  obtain ⟨p3, h3, g6, hf⟩ := bnx_ret hf
  refine p_callV_r (ci := 2) (As := []) (rest := [.int a1, .ref p2, .ref p1, .ref p1]) X hM hl rfl b2 pcy_X2_atom q1049 q1051 qs30 (okB.1 _ _ _ _ g6) rfl (by omega) (Nat.le_of_ble_eq_true rfl) rfl dX2_looked_18 (fun H locs hM => ?_)
  obtain ⟨h4, g8, hf⟩ := bnv_open hf
  refine p_callI_v (As := [.ref p2, .int a1, .ref p3]) (rest := [.ref p1]) X hM hl pcy_X18_init rfl q1103 q1104 (kX18_init g8) rfl (Nat.lt_of_lt_of_le (by decide) hd) (Nat.le_of_ble_eq_true rfl) rfl dX2_looked_21 (fun H locs hM => ?_)
  refine g_astore_n (i := 2) (lv' := [(2, .ref p1), (0, .ref a0), (1, .int a1)]) G dX2_looked_24 rfl hl (Nat.le_of_ble_eq_true rfl) rfl (fun ls hl => ?_)
  refine g_aload_n G dX2_looked_25 rfl (lv_at hl 1 rfl) ?_
  refine g_dup G dX2_looked_26 rfl ?_
  obtain ⟨v2, g9, hf⟩ := vI_open hf
  refine p_get (k := 4) X hM pc_2 (by decide) q353 rfl g9 dX2_looked_27 ?_
  refine g_iconst (v := 1) G dX2_looked_30 rfl ?_
  refine g_isub G dX2_looked_31 ?_
  obtain ⟨h5, g10, hf⟩ := bnv_open hf
  refine p_put (k := 4) X hM pc_2 (by decide) q353 rfl rfl rfl rfl g10 dX2_looked_32 (fun H locs hM => ?_)
  refine g_aload_n G dX2_looked_35 rfl (lv_at hl 0 rfl) ?_
  cases hf
  exact p_aret X (Or.inl ⟨_, rfl⟩) hM rfl dX2_looked_36
set_option maxHeartbeats 1000000 in
theorem xX2_looked {l : Launch} {D : PD} {A : Nat → Prop} {cap : Nat × Nat} {d : Nat} (hd : 4 ≤ d) {rB : Nat → PH → Option ((Nat ⊕ Nat) × PH)} {dB : Nat} (okB : OkR l D A cap yX2_atom cX2_atom 3 (Option.some (Jvm.ClassFile.FieldType.object "PupilsPupil$Value")) dB rB) (hdB : dB + 1 ≤ d) {a0 : Nat} {a1 : Int32} {h h' : PH} {q : Nat} (hf : fX2_looked D cap rB a0 a1 h = some (.inr q, h')) : XMet l D A cap yX2_looked cX2_looked 3 (Option.some (Jvm.ClassFile.FieldType.object "PupilsPupil$Value")) d [.ref a0, .int a1] h h' (q) := by
  unfold fX2_looked at hf
  refine p_headT (own := RX2) (ini := false) (pn_X2 rfl) rfl (fun q => by cases q) (Nat.le_of_ble_eq_true rfl) (fun m Z cx sx H0 ls X XT hM hl => ?_)
  have G := X.g
  have hl : lv_has ls 3 [(0, .ref a0), (1, .int a1)] := hl
  refine g_aload_n G dX2_looked_0 rfl (lv_at hl 0 rfl) ?_
  refine g_aload_n G dX2_looked_1 rfl (lv_at hl 0 rfl) ?_
  obtain ⟨v1, g1, hf⟩ := vI_open hf
  refine p_get (k := 3) X hM pc_2 (by decide) q352 rfl g1 dX2_looked_2 ?_
  obtain ⟨b1, hf⟩ := ckc_open hf
  refine bnx_split hf (fun g3 => ?_) (fun u1 h1 g2 hf => ?_)
  · exact p_callT (ci := 2) (As := [.int v1]) (rest := []) XT hM hl rfl b1 pcy_X2_opens q969 q971 qs25 (xX2_opens g3) rfl (Nat.lt_of_lt_of_le (by decide) hd) (Nat.le_of_ble_eq_true rfl) rfl dX2_looked_5
  refine p_callV_v (ci := 2) (As := [.int v1]) (rest := []) X hM hl rfl b1 pcy_X2_opens q969 q971 qs25 (kX2_opens g2) rfl (Nat.lt_of_lt_of_le (by decide) hd) (Nat.le_of_ble_eq_true rfl) rfl dX2_looked_5 (fun H locs hM => ?_)
  obtain ⟨p1, h2, g4, hf⟩ := bnd_open hf
  refine p_new X hM pc_18 q1101 q1102 q180 (by decide +kernel) g4 dX2_looked_8 (fun H locs hM => ?_)
  refine g_dup G dX2_looked_11 rfl ?_
  refine g_aload_n G dX2_looked_12 rfl (lv_at hl 0 rfl) ?_
  obtain ⟨p2, g5, hf⟩ := vA_open hf
  refine p_get (k := 7) X hM pc_2 (by decide) q356 rfl g5 dX2_looked_13 ?_
  refine g_iload_n G dX2_looked_16 rfl (lv_at hl 1 rfl) ?_
  refine g_aload_n G dX2_looked_17 rfl (lv_at hl 0 rfl) ?_
  obtain ⟨b2, hf⟩ := ckc_open hf
  refine bnx_split hf (fun g7 => ?_) (fun p3 h3 g6 hf => ?_)
  · exact p_callT (ci := 2) (As := []) (rest := [.int a1, .ref p2, .ref p1, .ref p1]) XT hM hl rfl b2 pcy_X2_atom q1049 q1051 qs30 (okB.2 _ _ _ _ g7) rfl (by omega) (Nat.le_of_ble_eq_true rfl) rfl dX2_looked_18
  refine p_callV_r (ci := 2) (As := []) (rest := [.int a1, .ref p2, .ref p1, .ref p1]) X hM hl rfl b2 pcy_X2_atom q1049 q1051 qs30 (okB.1 _ _ _ _ g6) rfl (by omega) (Nat.le_of_ble_eq_true rfl) rfl dX2_looked_18 (fun H locs hM => ?_)
  obtain ⟨h4, g8, hf⟩ := bnv_open hf
  refine p_callI_v (As := [.ref p2, .int a1, .ref p3]) (rest := [.ref p1]) X hM hl pcy_X18_init rfl q1103 q1104 (kX18_init g8) rfl (Nat.lt_of_lt_of_le (by decide) hd) (Nat.le_of_ble_eq_true rfl) rfl dX2_looked_21 (fun H locs hM => ?_)
  refine g_astore_n (i := 2) (lv' := [(2, .ref p1), (0, .ref a0), (1, .int a1)]) G dX2_looked_24 rfl hl (Nat.le_of_ble_eq_true rfl) rfl (fun ls hl => ?_)
  refine g_aload_n G dX2_looked_25 rfl (lv_at hl 1 rfl) ?_
  refine g_dup G dX2_looked_26 rfl ?_
  obtain ⟨v2, g9, hf⟩ := vI_open hf
  refine p_get (k := 4) X hM pc_2 (by decide) q353 rfl g9 dX2_looked_27 ?_
  refine g_iconst (v := 1) G dX2_looked_30 rfl ?_
  refine g_isub G dX2_looked_31 ?_
  obtain ⟨h5, g10, hf⟩ := bnv_open hf
  refine p_put (k := 4) X hM pc_2 (by decide) q353 rfl rfl rfl rfl g10 dX2_looked_32 (fun H locs hM => ?_)
  refine g_aload_n G dX2_looked_35 rfl (lv_at hl 0 rfl) ?_
  exact absurd hf (by intro z; cases z)
noncomputable def fX2_atom (D : PD) (cap : Nat × Nat) (rS : Nat → PH → Option ((Nat ⊕ Nat) × PH)) (rB : Nat → PH → Option ((Nat ⊕ Nat) × PH)) (a0 : Nat) (h : PH) : Option ((Nat ⊕ Nat) × PH) :=
  ckc (pCls h a0) 2 <|
  bnd (fX2_here a0 h) fun r1 h1 =>
  if r1 = (40 : Int32) then
    ckc (pCls h1 a0) 2 <|
    bnx (fX2_within D cap rS a0 0 h1) fun p9 h23 =>
    some (.inl p9, h23)
  else
    ckc (pCls h1 a0) 2 <|
    bnd (fX2_here a0 h1) fun r2 h2 =>
    bnd (fX0_isDigit r2 h2) fun r3 h3 =>
    if (bI r3) = 0 then
      ckc (pCls h3 a0) 2 <|
      bnx (fX2_word D cap a0 h3) fun p1 h4 =>
      vA (some (dS D 1)) fun p2 =>
      bnd (fX0_find D p1 p2 h4) fun r4 h5 =>
      jn (fun (h6 : PH) =>
        vI (pF h6 a0 2 5) fun v1 =>
        jn (fun (x1 : Int32) (h7 : PH) =>
          if x1 = ((-1) : Int32) then
            ckc (pCls h7 p1) 22 <|
            bnd (fJ6_equals D p1 (some (dK D 16)) h7) fun r5 h8 =>
            jn (fun (h9 : PH) =>
              ckc (pCls h9 p1) 22 <|
              bnd (fJ6_equals D p1 (some (dK D 16)) h9) fun r6 h10 =>
              jn (fun (x2 : Int32) (h11 : PH) =>
                ckc (pCls h11 a0) 2 <|
                bnx (fX2_within D cap rS a0 x2 h11) fun p3 h12 =>
                some (.inl p3, h12)) fun j159 =>
              if (bI r6) = 0 then
                j159 2 h10
              else
                j159 1 h10) fun j143 =>
            if (bI r5) = 0 then
              ckc (pCls h8 p1) 22 <|
              bnd (fJ6_equals D p1 (some (dK D 17)) h8) fun r7 h13 =>
              if (bI r7) = 0 then
                vI (pF h13 a0 2 3) fun v2 =>
                ckc (pCls h13 a0) 2 <|
                bnd (fX2_wrong a0 1 v2 h13) fun p4 h14 =>
                some (.inr p4, h14)
              else
                j143 h13
            else
              j143 h8
          else
            ckc (pCls h7 a0) 2 <|
            bnx (fX2_looked D cap rB a0 x1 h7) fun p5 h15 =>
            some (.inl p5, h15)) fun j101 =>
        if v1 = (3999 : Int32) then
          vA (some (dS D 2)) fun p6 =>
          bnd (fX0_find D p1 p6 h6) fun r8 h16 =>
          j101 r8 h16
        else
          j101 (-1) h6) fun j80 =>
      if r4 = ((-1) : Int32) then
        j80 h5
      else
        vI (pF h5 a0 2 5) fun v3 =>
        bnd (fX0_has v3 r4 h5) fun r9 h17 =>
        if (bI r9) = 0 then
          j80 h17
        else
          bnd (pNew cap h17 (.inr (17, [.int 0])) 1) fun p7 h18 =>
          bnv (fX17_init p7 r4 h18) fun h19 =>
          some (.inl p7, h19)
    else
      bnd (pNew cap h3 (.inr (16, [.long 0])) 1) fun p8 h20 =>
      ckc (pCls h20 a0) 2 <|
      bnx (fX2_number_2 a0 0 9999 h20) fun r10 h21 =>
      bnv (fX16_init p8 (Int32.toInt64 r10) h21) fun h22 =>
      some (.inl p8, h22)
set_option maxHeartbeats 1000000 in
theorem kX2_atom {l : Launch} {D : PD} {A : Nat → Prop} {cap : Nat × Nat} {d : Nat} (hd : 7 ≤ d) {rS : Nat → PH → Option ((Nat ⊕ Nat) × PH)} {dS : Nat} (okS : OkR l D A cap yX2_sum cX2_sum 3 (Option.some (Jvm.ClassFile.FieldType.object "PupilsPupil$Value")) dS rS) (hdS : dS + 2 ≤ d) {rB : Nat → PH → Option ((Nat ⊕ Nat) × PH)} {dB : Nat} (okB : OkR l D A cap yX2_atom cX2_atom 3 (Option.some (Jvm.ClassFile.FieldType.object "PupilsPupil$Value")) dB rB) (hdB : dB + 2 ≤ d) {a0 : Nat} {h h' : PH} {r : Nat} (hf : fX2_atom D cap rS rB a0 h = some (.inl r, h')) : CMet l D A cap yX2_atom cX2_atom 3 (Option.some (Jvm.ClassFile.FieldType.object "PupilsPupil$Value")) d [.ref a0] h h' (some (.ref r)) := by
  unfold fX2_atom at hf
  refine p_head (own := RX2) (ini := false) (pn_X2 rfl) rfl (fun q => by cases q) (Nat.le_of_ble_eq_true rfl) (fun m Z cx sx H0 ls X hM hl => ?_)
  have G := X.g
  have hl : lv_has ls 3 [(0, .ref a0)] := hl
  refine g_aload_n G dX2_atom_0 rfl (lv_at hl 0 rfl) ?_
  obtain ⟨b1, hf⟩ := ckc_open hf
  obtain ⟨r1, h1, g1, hf⟩ := bnd_open hf
  refine p_callV_r (ci := 2) (As := []) (rest := []) X hM hl rfl b1 pcy_X2_here q543 q545 qs4 (kX2_here g1) rfl (Nat.lt_of_lt_of_le (by decide) hd) (Nat.le_of_ble_eq_true rfl) rfl dX2_atom_1 (fun H locs hM => ?_)
  refine g_bipush (v := 40) G dX2_atom_4 rfl ?_
  refine g_icmp_ne (tgt := 15) G dX2_atom_6 rfl (fun c1 => ?_) (fun c1 => ?_)
  · have hf := it_neg c1 hf
    refine g_aload_n G dX2_atom_15 rfl (lv_at hl 0 rfl) ?_
    obtain ⟨b2, hf⟩ := ckc_open hf
    obtain ⟨r2, h2, g2, hf⟩ := bnd_open hf
    refine p_callV_r (ci := 2) (As := []) (rest := []) X hM hl rfl b2 pcy_X2_here q543 q545 qs4 (kX2_here g2) rfl (Nat.lt_of_lt_of_le (by decide) hd) (Nat.le_of_ble_eq_true rfl) rfl dX2_atom_16 (fun H locs hM => ?_)
    obtain ⟨r3, h3, g3, hf⟩ := bnd_open hf
    refine p_callSN_r (As := [.int r2]) (rest := []) X hM hl pcy_X0_isDigit q570 q571 (kX0_isDigit g3) rfl (Nat.lt_of_lt_of_le (by decide) hd) (Nat.le_of_ble_eq_true rfl) rfl dX2_atom_19 (fun H locs hM => ?_)
    refine g_if_eq (tgt := 42) G dX2_atom_22 rfl (fun c2 => ?_) (fun c2 => ?_)
    · have hf := it_pos c2 hf
      refine g_aload_n G dX2_atom_42 rfl (lv_at hl 0 rfl) ?_
      obtain ⟨b3, hf⟩ := ckc_open hf
      obtain ⟨p1, h4, g4, hf⟩ := bnx_ret hf
      refine p_callV_r (ci := 2) (As := []) (rest := []) X hM hl rfl b3 pcy_X2_word q559 q561 qs8 (kX2_word g4) rfl (Nat.lt_of_lt_of_le (by decide) hd) (Nat.le_of_ble_eq_true rfl) rfl dX2_atom_43 (fun H locs hM => ?_)
      refine g_astore_n (i := 1) (lv' := [(1, .ref p1), (0, .ref a0)]) G dX2_atom_46 rfl hl (Nat.le_of_ble_eq_true rfl) rfl (fun ls hl => ?_)
      refine g_aload_n G dX2_atom_47 rfl (lv_at hl 0 rfl) ?_
      obtain ⟨p2, g6, hf⟩ := vA_open hf
      refine p_getsN X hM (i := 1) rfl q1083 dX2_atom_48 ?_
      rw [Option.some.inj g6]
      obtain ⟨r4, h5, g7, hf⟩ := bnd_open hf
      refine p_callSN_r (As := [.ref p1, .ref p2]) (rest := []) X hM hl pcy_X0_find q740 q741 (kX0_find g7) rfl (Nat.lt_of_lt_of_le (by decide) hd) (Nat.le_of_ble_eq_true rfl) rfl dX2_atom_51 (fun H locs hM => ?_)
      refine g_istore_n (i := 2) (lv' := [(2, .int r4), (1, .ref p1), (0, .ref a0)]) G dX2_atom_54 rfl hl (Nat.le_of_ble_eq_true rfl) rfl (fun ls hl => ?_)
      refine g_iload_n G dX2_atom_55 rfl (lv_at hl 0 rfl) ?_
      refine g_iconst (v := (-1)) G dX2_atom_56 rfl ?_
      obtain ⟨j80, ej80, hf⟩ := jn_open hf
      have J80 : ∀ (h6 : PH) (H : Heap) (locs : List Loc), j80 h6 = some (.inl r, h') → PI D A cap H0 h6 H locs → ∀ ls : Array Slot, lv_has ls 3 [(0, .ref a0), (1, .ref p1)] → Z H locs (cx H) (sx H) (F0 m 80 ls []) := by
        intro h6 H locs hf hM ls hl
        rw [ej80] at hf
        refine g_aload_n G dX2_atom_80 rfl (lv_at hl 0 rfl) ?_
        obtain ⟨v1, g8, hf⟩ := vI_open hf
        refine p_get (k := 5) X hM pc_2 (by decide) q354 rfl g8 dX2_atom_81 ?_
        refine g_sipush (v := 3999) G dX2_atom_84 rfl ?_
        obtain ⟨j101, ej101, hf⟩ := jn_open hf
        have J101 : ∀ (x1 : Int32) (h7 : PH) (H : Heap) (locs : List Loc), j101 x1 h7 = some (.inl r, h') → PI D A cap H0 h7 H locs → ∀ ls : Array Slot, lv_has ls 3 [(0, .ref a0), (1, .ref p1)] → Z H locs (cx H) (sx H) (F0 m 101 ls [.int x1]) := by
          intro x1 h7 H locs hf hM ls hl
          rw [ej101] at hf
          refine g_istore_n (i := 2) (lv' := [(2, .int x1), (0, .ref a0), (1, .ref p1)]) G dX2_atom_101 rfl hl (Nat.le_of_ble_eq_true rfl) rfl (fun ls hl => ?_)
          refine g_iload_n G dX2_atom_102 rfl (lv_at hl 0 rfl) ?_
          refine g_iconst (v := (-1)) G dX2_atom_103 rfl ?_
          refine g_icmp_eq (tgt := 113) G dX2_atom_104 rfl (fun c3 => ?_) (fun c3 => ?_)
          · have hf := it_pos c3 hf
            refine g_aload_n G dX2_atom_113 rfl (lv_at hl 2 rfl) ?_
            refine p_ldcsW X (i := 16) rfl dX2_atom_114 ?_
            obtain ⟨b4, hf⟩ := ckc_open hf
            obtain ⟨r5, h8, g9, hf⟩ := bnd_open hf
            refine p_callV_r (ci := 22) (As := [va_rf (some (dK D 16))]) (rest := []) X hM hl rfl b4 pcy_J6_equals q709 q710 q711 (kJ6_equals g9) rfl (Nat.lt_of_lt_of_le (by decide) hd) (Nat.le_of_ble_eq_true rfl) rfl dX2_atom_117 (fun H locs hM => ?_)
            obtain ⟨j143, ej143, hf⟩ := jn_open hf
            have J143 : ∀ (h9 : PH) (H : Heap) (locs : List Loc), j143 h9 = some (.inl r, h') → PI D A cap H0 h9 H locs → ∀ ls : Array Slot, lv_has ls 3 [(0, .ref a0), (1, .ref p1)] → Z H locs (cx H) (sx H) (F0 m 143 ls []) := by
              intro h9 H locs hf hM ls hl
              rw [ej143] at hf
              refine g_aload_n G dX2_atom_143 rfl (lv_at hl 0 rfl) ?_
              refine g_aload_n G dX2_atom_144 rfl (lv_at hl 1 rfl) ?_
              refine p_ldcsW X (i := 16) rfl dX2_atom_145 ?_
              obtain ⟨b5, hf⟩ := ckc_open hf
              obtain ⟨r6, h10, g10, hf⟩ := bnd_open hf
              refine p_callV_r (ci := 22) (As := [va_rf (some (dK D 16))]) (rest := [.ref a0]) X hM hl rfl b5 pcy_J6_equals q709 q710 q711 (kJ6_equals g10) rfl (Nat.lt_of_lt_of_le (by decide) hd) (Nat.le_of_ble_eq_true rfl) rfl dX2_atom_148 (fun H locs hM => ?_)
              obtain ⟨j159, ej159, hf⟩ := jn_open hf
              have J159 : ∀ (x2 : Int32) (h11 : PH) (H : Heap) (locs : List Loc), j159 x2 h11 = some (.inl r, h') → PI D A cap H0 h11 H locs → ∀ ls : Array Slot, lv_has ls 3 [] → Z H locs (cx H) (sx H) (F0 m 159 ls [.int x2, .ref a0]) := by
                intro x2 h11 H locs hf hM ls hl
                rw [ej159] at hf
                obtain ⟨b6, hf⟩ := ckc_open hf
                obtain ⟨p3, h12, g11, hf⟩ := bnx_ret hf
                refine p_callV_r (ci := 2) (As := [.int x2]) (rest := []) X hM hl rfl b6 pcy_X2_within q1053 q1055 qs31 (kX2_within (d := d - 1) (by omega) okS (by omega) g11) rfl (by omega) (Nat.le_of_ble_eq_true rfl) rfl dX2_atom_159 (fun H locs hM => ?_)
                cases hf
                exact p_aret X (Or.inl ⟨_, rfl⟩) hM rfl dX2_atom_162
              refine g_if_eq (tgt := 158) G dX2_atom_151 rfl (fun c4 => ?_) (fun c4 => ?_)
              · have hf := it_pos c4 hf
                refine g_iconst (v := 2) G dX2_atom_158 rfl ?_
                exact J159 _ _ _ _ hf hM ls (lv_sub hl [] rfl)
              · have hf := it_neg c4 hf
                refine g_iconst (v := 1) G dX2_atom_154 rfl ?_
                refine g_goto (tgt := 159) G dX2_atom_155 rfl ?_
                exact J159 _ _ _ _ hf hM ls (lv_sub hl [] rfl)
            refine g_if_ne (tgt := 143) G dX2_atom_120 rfl (fun c5 => ?_) (fun c5 => ?_)
            · have hf := it_neg c5 hf
              exact J143 _ _ _ hf hM ls (lv_sub hl [1, 2] rfl)
            · have hf := it_pos c5 hf
              refine g_aload_n G dX2_atom_123 rfl (lv_at hl 2 rfl) ?_
              refine p_ldcsW X (i := 17) rfl dX2_atom_124 ?_
              obtain ⟨b7, hf⟩ := ckc_open hf
              obtain ⟨r7, h13, g13, hf⟩ := bnd_open hf
              refine p_callV_r (ci := 22) (As := [va_rf (some (dK D 17))]) (rest := []) X hM hl rfl b7 pcy_J6_equals q709 q710 q711 (kJ6_equals g13) rfl (Nat.lt_of_lt_of_le (by decide) hd) (Nat.le_of_ble_eq_true rfl) rfl dX2_atom_127 (fun H locs hM => ?_)
              refine g_if_ne (tgt := 143) G dX2_atom_130 rfl (fun c6 => ?_) (fun c6 => ?_)
              · have hf := it_neg c6 hf
                exact J143 _ _ _ hf hM ls (lv_sub hl [1, 2] rfl)
              · have hf := it_pos c6 hf
                refine g_aload_n G dX2_atom_133 rfl (lv_at hl 1 rfl) ?_
                refine g_iconst (v := 1) G dX2_atom_134 rfl ?_
                refine g_aload_n G dX2_atom_135 rfl (lv_at hl 1 rfl) ?_
                obtain ⟨v2, g14, hf⟩ := vI_open hf
                refine p_get (k := 3) X hM pc_2 (by decide) q352 rfl g14 dX2_atom_136 ?_
                obtain ⟨b8, hf⟩ := ckc_open hf
                obtain ⟨p4, h14, g15, hf⟩ := bnd_open hf
                refine p_callV_r (ci := 2) (As := [.int 1, .int v2]) (rest := []) X hM hl rfl b8 pcy_X2_wrong q555 q557 qs7 (kX2_wrong g15) rfl (Nat.lt_of_lt_of_le (by decide) hd) (Nat.le_of_ble_eq_true rfl) rfl dX2_atom_139 (fun H locs hM => ?_)
                exact absurd hf (by intro z; cases z)
          · have hf := it_neg c3 hf
            refine g_aload_n G dX2_atom_107 rfl (lv_at hl 1 rfl) ?_
            refine g_iload_n G dX2_atom_108 rfl (lv_at hl 0 rfl) ?_
            obtain ⟨b9, hf⟩ := ckc_open hf
            obtain ⟨p5, h15, g16, hf⟩ := bnx_ret hf
            refine p_callV_r (ci := 2) (As := [.int x1]) (rest := []) X hM hl rfl b9 pcy_X2_looked q1097 q1099 qs32 (kX2_looked (d := d - 1) (by omega) okB (by omega) g16) rfl (by omega) (Nat.le_of_ble_eq_true rfl) rfl dX2_atom_109 (fun H locs hM => ?_)
            cases hf
            exact p_aret X (Or.inl ⟨_, rfl⟩) hM rfl dX2_atom_112
        refine g_icmp_ne (tgt := 100) G dX2_atom_87 rfl (fun c7 => ?_) (fun c7 => ?_)
        · have hf := it_neg c7 hf
          refine g_iconst (v := (-1)) G dX2_atom_100 rfl ?_
          exact J101 _ _ _ _ hf hM ls (lv_sub hl [0, 1] rfl)
        · have hf := it_pos c7 hf
          refine g_aload_n G dX2_atom_90 rfl (lv_at hl 1 rfl) ?_
          obtain ⟨p6, g18, hf⟩ := vA_open hf
          refine p_getsN X hM (i := 2) rfl q1095 dX2_atom_91 ?_
          rw [Option.some.inj g18]
          obtain ⟨r8, h16, g19, hf⟩ := bnd_open hf
          refine p_callSN_r (As := [.ref p1, .ref p6]) (rest := []) X hM hl pcy_X0_find q740 q741 (kX0_find g19) rfl (Nat.lt_of_lt_of_le (by decide) hd) (Nat.le_of_ble_eq_true rfl) rfl dX2_atom_94 (fun H locs hM => ?_)
          refine g_goto (tgt := 101) G dX2_atom_97 rfl ?_
          exact J101 _ _ _ _ hf hM ls (lv_sub hl [0, 1] rfl)
      refine g_icmp_eq (tgt := 80) G dX2_atom_57 rfl (fun c8 => ?_) (fun c8 => ?_)
      · have hf := it_pos c8 hf
        exact J80 _ _ _ hf hM ls (lv_sub hl [2, 1] rfl)
      · have hf := it_neg c8 hf
        refine g_aload_n G dX2_atom_60 rfl (lv_at hl 2 rfl) ?_
        obtain ⟨v3, g20, hf⟩ := vI_open hf
        refine p_get (k := 5) X hM pc_2 (by decide) q354 rfl g20 dX2_atom_61 ?_
        refine g_iload_n G dX2_atom_64 rfl (lv_at hl 0 rfl) ?_
        obtain ⟨r9, h17, g21, hf⟩ := bnd_open hf
        refine p_callSN_r (As := [.int v3, .int r4]) (rest := []) X hM hl pcy_X0_has q913 q914 (kX0_has g21) rfl (Nat.lt_of_lt_of_le (by decide) hd) (Nat.le_of_ble_eq_true rfl) rfl dX2_atom_65 (fun H locs hM => ?_)
        refine g_if_eq (tgt := 80) G dX2_atom_68 rfl (fun c9 => ?_) (fun c9 => ?_)
        · have hf := it_pos c9 hf
          exact J80 _ _ _ hf hM ls (lv_sub hl [2, 1] rfl)
        · have hf := it_neg c9 hf
          obtain ⟨p7, h18, g22, hf⟩ := bnd_open hf
          refine p_new X hM pc_17 q1085 q1086 q179 (by decide +kernel) g22 dX2_atom_71 (fun H locs hM => ?_)
          refine g_dup G dX2_atom_74 rfl ?_
          refine g_iload_n G dX2_atom_75 rfl (lv_at hl 0 rfl) ?_
          obtain ⟨h19, g23, hf⟩ := bnv_open hf
          refine p_callI_v (As := [.int r4]) (rest := [.ref p7]) X hM hl pcy_X17_init rfl q1087 q1088 (kX17_init g23) rfl (Nat.lt_of_lt_of_le (by decide) hd) (Nat.le_of_ble_eq_true rfl) rfl dX2_atom_76 (fun H locs hM => ?_)
          cases hf
          exact p_aret X (Or.inl ⟨_, rfl⟩) hM rfl dX2_atom_79
    · have hf := it_neg c2 hf
      obtain ⟨p8, h20, g24, hf⟩ := bnd_open hf
      refine p_new X hM pc_16 q1073 q1074 q178 (by decide +kernel) g24 dX2_atom_25 (fun H locs hM => ?_)
      refine g_dup G dX2_atom_28 rfl ?_
      refine g_aload_n G dX2_atom_29 rfl (lv_at hl 0 rfl) ?_
      refine g_iconst (v := 0) G dX2_atom_30 rfl ?_
      refine g_sipush (v := 9999) G dX2_atom_31 rfl ?_
      obtain ⟨b10, hf⟩ := ckc_open hf
      obtain ⟨r10, h21, g25, hf⟩ := bnx_ret hf
      refine p_callV_r (ci := 2) (As := [.int 0, .int 9999]) (rest := [.ref p8, .ref p8]) X hM hl rfl b10 pcy_X2_number_2 q789 q791 qs15 (kX2_number_2 g25) rfl (Nat.lt_of_lt_of_le (by decide) hd) (Nat.le_of_ble_eq_true rfl) rfl dX2_atom_34 (fun H locs hM => ?_)
      refine g_i2l (v := Int32.toInt64 r10) G dX2_atom_37 rfl ?_
      obtain ⟨h22, g27, hf⟩ := bnv_open hf
      refine p_callI_v (As := [.long (Int32.toInt64 r10)]) (rest := [.ref p8]) X hM hl pcy_X16_init rfl q1075 q1076 (kX16_init g27) rfl (Nat.lt_of_lt_of_le (by decide) hd) (Nat.le_of_ble_eq_true rfl) rfl dX2_atom_38 (fun H locs hM => ?_)
      cases hf
      exact p_aret X (Or.inl ⟨_, rfl⟩) hM rfl dX2_atom_41
  · have hf := it_pos c1 hf
    refine g_aload_n G dX2_atom_9 rfl (lv_at hl 0 rfl) ?_
    refine g_iconst (v := 0) G dX2_atom_10 rfl ?_
    obtain ⟨b11, hf⟩ := ckc_open hf
    obtain ⟨p9, h23, g28, hf⟩ := bnx_ret hf
    refine p_callV_r (ci := 2) (As := [.int 0]) (rest := []) X hM hl rfl b11 pcy_X2_within q1053 q1055 qs31 (kX2_within (d := d - 1) (by omega) okS (by omega) g28) rfl (by omega) (Nat.le_of_ble_eq_true rfl) rfl dX2_atom_11 (fun H locs hM => ?_)
    cases hf
    exact p_aret X (Or.inl ⟨_, rfl⟩) hM rfl dX2_atom_14
set_option maxHeartbeats 1000000 in
theorem xX2_atom {l : Launch} {D : PD} {A : Nat → Prop} {cap : Nat × Nat} {d : Nat} (hd : 7 ≤ d) {rS : Nat → PH → Option ((Nat ⊕ Nat) × PH)} {dS : Nat} (okS : OkR l D A cap yX2_sum cX2_sum 3 (Option.some (Jvm.ClassFile.FieldType.object "PupilsPupil$Value")) dS rS) (hdS : dS + 2 ≤ d) {rB : Nat → PH → Option ((Nat ⊕ Nat) × PH)} {dB : Nat} (okB : OkR l D A cap yX2_atom cX2_atom 3 (Option.some (Jvm.ClassFile.FieldType.object "PupilsPupil$Value")) dB rB) (hdB : dB + 2 ≤ d) {a0 : Nat} {h h' : PH} {q : Nat} (hf : fX2_atom D cap rS rB a0 h = some (.inr q, h')) : XMet l D A cap yX2_atom cX2_atom 3 (Option.some (Jvm.ClassFile.FieldType.object "PupilsPupil$Value")) d [.ref a0] h h' (q) := by
  unfold fX2_atom at hf
  refine p_headT (own := RX2) (ini := false) (pn_X2 rfl) rfl (fun q => by cases q) (Nat.le_of_ble_eq_true rfl) (fun m Z cx sx H0 ls X XT hM hl => ?_)
  have G := X.g
  have hl : lv_has ls 3 [(0, .ref a0)] := hl
  refine g_aload_n G dX2_atom_0 rfl (lv_at hl 0 rfl) ?_
  obtain ⟨b1, hf⟩ := ckc_open hf
  obtain ⟨r1, h1, g1, hf⟩ := bnd_open hf
  refine p_callV_r (ci := 2) (As := []) (rest := []) X hM hl rfl b1 pcy_X2_here q543 q545 qs4 (kX2_here g1) rfl (Nat.lt_of_lt_of_le (by decide) hd) (Nat.le_of_ble_eq_true rfl) rfl dX2_atom_1 (fun H locs hM => ?_)
  refine g_bipush (v := 40) G dX2_atom_4 rfl ?_
  refine g_icmp_ne (tgt := 15) G dX2_atom_6 rfl (fun c1 => ?_) (fun c1 => ?_)
  · have hf := it_neg c1 hf
    refine g_aload_n G dX2_atom_15 rfl (lv_at hl 0 rfl) ?_
    obtain ⟨b2, hf⟩ := ckc_open hf
    obtain ⟨r2, h2, g2, hf⟩ := bnd_open hf
    refine p_callV_r (ci := 2) (As := []) (rest := []) X hM hl rfl b2 pcy_X2_here q543 q545 qs4 (kX2_here g2) rfl (Nat.lt_of_lt_of_le (by decide) hd) (Nat.le_of_ble_eq_true rfl) rfl dX2_atom_16 (fun H locs hM => ?_)
    obtain ⟨r3, h3, g3, hf⟩ := bnd_open hf
    refine p_callSN_r (As := [.int r2]) (rest := []) X hM hl pcy_X0_isDigit q570 q571 (kX0_isDigit g3) rfl (Nat.lt_of_lt_of_le (by decide) hd) (Nat.le_of_ble_eq_true rfl) rfl dX2_atom_19 (fun H locs hM => ?_)
    refine g_if_eq (tgt := 42) G dX2_atom_22 rfl (fun c2 => ?_) (fun c2 => ?_)
    · have hf := it_pos c2 hf
      refine g_aload_n G dX2_atom_42 rfl (lv_at hl 0 rfl) ?_
      obtain ⟨b3, hf⟩ := ckc_open hf
      refine bnx_split hf (fun g5 => ?_) (fun p1 h4 g4 hf => ?_)
      · exact p_callT (ci := 2) (As := []) (rest := []) XT hM hl rfl b3 pcy_X2_word q559 q561 qs8 (xX2_word g5) rfl (Nat.lt_of_lt_of_le (by decide) hd) (Nat.le_of_ble_eq_true rfl) rfl dX2_atom_43
      refine p_callV_r (ci := 2) (As := []) (rest := []) X hM hl rfl b3 pcy_X2_word q559 q561 qs8 (kX2_word g4) rfl (Nat.lt_of_lt_of_le (by decide) hd) (Nat.le_of_ble_eq_true rfl) rfl dX2_atom_43 (fun H locs hM => ?_)
      refine g_astore_n (i := 1) (lv' := [(1, .ref p1), (0, .ref a0)]) G dX2_atom_46 rfl hl (Nat.le_of_ble_eq_true rfl) rfl (fun ls hl => ?_)
      refine g_aload_n G dX2_atom_47 rfl (lv_at hl 0 rfl) ?_
      obtain ⟨p2, g6, hf⟩ := vA_open hf
      refine p_getsN X hM (i := 1) rfl q1083 dX2_atom_48 ?_
      rw [Option.some.inj g6]
      obtain ⟨r4, h5, g7, hf⟩ := bnd_open hf
      refine p_callSN_r (As := [.ref p1, .ref p2]) (rest := []) X hM hl pcy_X0_find q740 q741 (kX0_find g7) rfl (Nat.lt_of_lt_of_le (by decide) hd) (Nat.le_of_ble_eq_true rfl) rfl dX2_atom_51 (fun H locs hM => ?_)
      refine g_istore_n (i := 2) (lv' := [(2, .int r4), (1, .ref p1), (0, .ref a0)]) G dX2_atom_54 rfl hl (Nat.le_of_ble_eq_true rfl) rfl (fun ls hl => ?_)
      refine g_iload_n G dX2_atom_55 rfl (lv_at hl 0 rfl) ?_
      refine g_iconst (v := (-1)) G dX2_atom_56 rfl ?_
      obtain ⟨j80, ej80, hf⟩ := jn_open hf
      have J80 : ∀ (h6 : PH) (H : Heap) (locs : List Loc), j80 h6 = some (.inr q, h') → PI D A cap H0 h6 H locs → ∀ ls : Array Slot, lv_has ls 3 [(0, .ref a0), (1, .ref p1)] → Z H locs (cx H) (sx H) (F0 m 80 ls []) := by
        intro h6 H locs hf hM ls hl
        rw [ej80] at hf
        refine g_aload_n G dX2_atom_80 rfl (lv_at hl 0 rfl) ?_
        obtain ⟨v1, g8, hf⟩ := vI_open hf
        refine p_get (k := 5) X hM pc_2 (by decide) q354 rfl g8 dX2_atom_81 ?_
        refine g_sipush (v := 3999) G dX2_atom_84 rfl ?_
        obtain ⟨j101, ej101, hf⟩ := jn_open hf
        have J101 : ∀ (x1 : Int32) (h7 : PH) (H : Heap) (locs : List Loc), j101 x1 h7 = some (.inr q, h') → PI D A cap H0 h7 H locs → ∀ ls : Array Slot, lv_has ls 3 [(0, .ref a0), (1, .ref p1)] → Z H locs (cx H) (sx H) (F0 m 101 ls [.int x1]) := by
          intro x1 h7 H locs hf hM ls hl
          rw [ej101] at hf
          refine g_istore_n (i := 2) (lv' := [(2, .int x1), (0, .ref a0), (1, .ref p1)]) G dX2_atom_101 rfl hl (Nat.le_of_ble_eq_true rfl) rfl (fun ls hl => ?_)
          refine g_iload_n G dX2_atom_102 rfl (lv_at hl 0 rfl) ?_
          refine g_iconst (v := (-1)) G dX2_atom_103 rfl ?_
          refine g_icmp_eq (tgt := 113) G dX2_atom_104 rfl (fun c3 => ?_) (fun c3 => ?_)
          · have hf := it_pos c3 hf
            refine g_aload_n G dX2_atom_113 rfl (lv_at hl 2 rfl) ?_
            refine p_ldcsW X (i := 16) rfl dX2_atom_114 ?_
            obtain ⟨b4, hf⟩ := ckc_open hf
            obtain ⟨r5, h8, g9, hf⟩ := bnd_open hf
            refine p_callV_r (ci := 22) (As := [va_rf (some (dK D 16))]) (rest := []) X hM hl rfl b4 pcy_J6_equals q709 q710 q711 (kJ6_equals g9) rfl (Nat.lt_of_lt_of_le (by decide) hd) (Nat.le_of_ble_eq_true rfl) rfl dX2_atom_117 (fun H locs hM => ?_)
            obtain ⟨j143, ej143, hf⟩ := jn_open hf
            have J143 : ∀ (h9 : PH) (H : Heap) (locs : List Loc), j143 h9 = some (.inr q, h') → PI D A cap H0 h9 H locs → ∀ ls : Array Slot, lv_has ls 3 [(0, .ref a0), (1, .ref p1)] → Z H locs (cx H) (sx H) (F0 m 143 ls []) := by
              intro h9 H locs hf hM ls hl
              rw [ej143] at hf
              refine g_aload_n G dX2_atom_143 rfl (lv_at hl 0 rfl) ?_
              refine g_aload_n G dX2_atom_144 rfl (lv_at hl 1 rfl) ?_
              refine p_ldcsW X (i := 16) rfl dX2_atom_145 ?_
              obtain ⟨b5, hf⟩ := ckc_open hf
              obtain ⟨r6, h10, g10, hf⟩ := bnd_open hf
              refine p_callV_r (ci := 22) (As := [va_rf (some (dK D 16))]) (rest := [.ref a0]) X hM hl rfl b5 pcy_J6_equals q709 q710 q711 (kJ6_equals g10) rfl (Nat.lt_of_lt_of_le (by decide) hd) (Nat.le_of_ble_eq_true rfl) rfl dX2_atom_148 (fun H locs hM => ?_)
              obtain ⟨j159, ej159, hf⟩ := jn_open hf
              have J159 : ∀ (x2 : Int32) (h11 : PH) (H : Heap) (locs : List Loc), j159 x2 h11 = some (.inr q, h') → PI D A cap H0 h11 H locs → ∀ ls : Array Slot, lv_has ls 3 [] → Z H locs (cx H) (sx H) (F0 m 159 ls [.int x2, .ref a0]) := by
                intro x2 h11 H locs hf hM ls hl
                rw [ej159] at hf
                obtain ⟨b6, hf⟩ := ckc_open hf
                refine bnx_split hf (fun g12 => ?_) (fun p3 h12 g11 hf => ?_)
                · exact p_callT (ci := 2) (As := [.int x2]) (rest := []) XT hM hl rfl b6 pcy_X2_within q1053 q1055 qs31 (xX2_within (d := d - 1) (by omega) okS (by omega) g12) rfl (by omega) (Nat.le_of_ble_eq_true rfl) rfl dX2_atom_159
                refine p_callV_r (ci := 2) (As := [.int x2]) (rest := []) X hM hl rfl b6 pcy_X2_within q1053 q1055 qs31 (kX2_within (d := d - 1) (by omega) okS (by omega) g11) rfl (by omega) (Nat.le_of_ble_eq_true rfl) rfl dX2_atom_159 (fun H locs hM => ?_)
                exact absurd hf (by intro z; cases z)
              refine g_if_eq (tgt := 158) G dX2_atom_151 rfl (fun c4 => ?_) (fun c4 => ?_)
              · have hf := it_pos c4 hf
                refine g_iconst (v := 2) G dX2_atom_158 rfl ?_
                exact J159 _ _ _ _ hf hM ls (lv_sub hl [] rfl)
              · have hf := it_neg c4 hf
                refine g_iconst (v := 1) G dX2_atom_154 rfl ?_
                refine g_goto (tgt := 159) G dX2_atom_155 rfl ?_
                exact J159 _ _ _ _ hf hM ls (lv_sub hl [] rfl)
            refine g_if_ne (tgt := 143) G dX2_atom_120 rfl (fun c5 => ?_) (fun c5 => ?_)
            · have hf := it_neg c5 hf
              exact J143 _ _ _ hf hM ls (lv_sub hl [1, 2] rfl)
            · have hf := it_pos c5 hf
              refine g_aload_n G dX2_atom_123 rfl (lv_at hl 2 rfl) ?_
              refine p_ldcsW X (i := 17) rfl dX2_atom_124 ?_
              obtain ⟨b7, hf⟩ := ckc_open hf
              obtain ⟨r7, h13, g13, hf⟩ := bnd_open hf
              refine p_callV_r (ci := 22) (As := [va_rf (some (dK D 17))]) (rest := []) X hM hl rfl b7 pcy_J6_equals q709 q710 q711 (kJ6_equals g13) rfl (Nat.lt_of_lt_of_le (by decide) hd) (Nat.le_of_ble_eq_true rfl) rfl dX2_atom_127 (fun H locs hM => ?_)
              refine g_if_ne (tgt := 143) G dX2_atom_130 rfl (fun c6 => ?_) (fun c6 => ?_)
              · have hf := it_neg c6 hf
                exact J143 _ _ _ hf hM ls (lv_sub hl [1, 2] rfl)
              · have hf := it_pos c6 hf
                refine g_aload_n G dX2_atom_133 rfl (lv_at hl 1 rfl) ?_
                refine g_iconst (v := 1) G dX2_atom_134 rfl ?_
                refine g_aload_n G dX2_atom_135 rfl (lv_at hl 1 rfl) ?_
                obtain ⟨v2, g14, hf⟩ := vI_open hf
                refine p_get (k := 3) X hM pc_2 (by decide) q352 rfl g14 dX2_atom_136 ?_
                obtain ⟨b8, hf⟩ := ckc_open hf
                obtain ⟨p4, h14, g15, hf⟩ := bnd_open hf
                refine p_callV_r (ci := 2) (As := [.int 1, .int v2]) (rest := []) X hM hl rfl b8 pcy_X2_wrong q555 q557 qs7 (kX2_wrong g15) rfl (Nat.lt_of_lt_of_le (by decide) hd) (Nat.le_of_ble_eq_true rfl) rfl dX2_atom_139 (fun H locs hM => ?_)
                cases hf
                exact p_athrow XT hM dX2_atom_142
          · have hf := it_neg c3 hf
            refine g_aload_n G dX2_atom_107 rfl (lv_at hl 1 rfl) ?_
            refine g_iload_n G dX2_atom_108 rfl (lv_at hl 0 rfl) ?_
            obtain ⟨b9, hf⟩ := ckc_open hf
            refine bnx_split hf (fun g17 => ?_) (fun p5 h15 g16 hf => ?_)
            · exact p_callT (ci := 2) (As := [.int x1]) (rest := []) XT hM hl rfl b9 pcy_X2_looked q1097 q1099 qs32 (xX2_looked (d := d - 1) (by omega) okB (by omega) g17) rfl (by omega) (Nat.le_of_ble_eq_true rfl) rfl dX2_atom_109
            refine p_callV_r (ci := 2) (As := [.int x1]) (rest := []) X hM hl rfl b9 pcy_X2_looked q1097 q1099 qs32 (kX2_looked (d := d - 1) (by omega) okB (by omega) g16) rfl (by omega) (Nat.le_of_ble_eq_true rfl) rfl dX2_atom_109 (fun H locs hM => ?_)
            exact absurd hf (by intro z; cases z)
        refine g_icmp_ne (tgt := 100) G dX2_atom_87 rfl (fun c7 => ?_) (fun c7 => ?_)
        · have hf := it_neg c7 hf
          refine g_iconst (v := (-1)) G dX2_atom_100 rfl ?_
          exact J101 _ _ _ _ hf hM ls (lv_sub hl [0, 1] rfl)
        · have hf := it_pos c7 hf
          refine g_aload_n G dX2_atom_90 rfl (lv_at hl 1 rfl) ?_
          obtain ⟨p6, g18, hf⟩ := vA_open hf
          refine p_getsN X hM (i := 2) rfl q1095 dX2_atom_91 ?_
          rw [Option.some.inj g18]
          obtain ⟨r8, h16, g19, hf⟩ := bnd_open hf
          refine p_callSN_r (As := [.ref p1, .ref p6]) (rest := []) X hM hl pcy_X0_find q740 q741 (kX0_find g19) rfl (Nat.lt_of_lt_of_le (by decide) hd) (Nat.le_of_ble_eq_true rfl) rfl dX2_atom_94 (fun H locs hM => ?_)
          refine g_goto (tgt := 101) G dX2_atom_97 rfl ?_
          exact J101 _ _ _ _ hf hM ls (lv_sub hl [0, 1] rfl)
      refine g_icmp_eq (tgt := 80) G dX2_atom_57 rfl (fun c8 => ?_) (fun c8 => ?_)
      · have hf := it_pos c8 hf
        exact J80 _ _ _ hf hM ls (lv_sub hl [2, 1] rfl)
      · have hf := it_neg c8 hf
        refine g_aload_n G dX2_atom_60 rfl (lv_at hl 2 rfl) ?_
        obtain ⟨v3, g20, hf⟩ := vI_open hf
        refine p_get (k := 5) X hM pc_2 (by decide) q354 rfl g20 dX2_atom_61 ?_
        refine g_iload_n G dX2_atom_64 rfl (lv_at hl 0 rfl) ?_
        obtain ⟨r9, h17, g21, hf⟩ := bnd_open hf
        refine p_callSN_r (As := [.int v3, .int r4]) (rest := []) X hM hl pcy_X0_has q913 q914 (kX0_has g21) rfl (Nat.lt_of_lt_of_le (by decide) hd) (Nat.le_of_ble_eq_true rfl) rfl dX2_atom_65 (fun H locs hM => ?_)
        refine g_if_eq (tgt := 80) G dX2_atom_68 rfl (fun c9 => ?_) (fun c9 => ?_)
        · have hf := it_pos c9 hf
          exact J80 _ _ _ hf hM ls (lv_sub hl [2, 1] rfl)
        · have hf := it_neg c9 hf
          obtain ⟨p7, h18, g22, hf⟩ := bnd_open hf
          refine p_new X hM pc_17 q1085 q1086 q179 (by decide +kernel) g22 dX2_atom_71 (fun H locs hM => ?_)
          refine g_dup G dX2_atom_74 rfl ?_
          refine g_iload_n G dX2_atom_75 rfl (lv_at hl 0 rfl) ?_
          obtain ⟨h19, g23, hf⟩ := bnv_open hf
          refine p_callI_v (As := [.int r4]) (rest := [.ref p7]) X hM hl pcy_X17_init rfl q1087 q1088 (kX17_init g23) rfl (Nat.lt_of_lt_of_le (by decide) hd) (Nat.le_of_ble_eq_true rfl) rfl dX2_atom_76 (fun H locs hM => ?_)
          exact absurd hf (by intro z; cases z)
    · have hf := it_neg c2 hf
      obtain ⟨p8, h20, g24, hf⟩ := bnd_open hf
      refine p_new X hM pc_16 q1073 q1074 q178 (by decide +kernel) g24 dX2_atom_25 (fun H locs hM => ?_)
      refine g_dup G dX2_atom_28 rfl ?_
      refine g_aload_n G dX2_atom_29 rfl (lv_at hl 0 rfl) ?_
      refine g_iconst (v := 0) G dX2_atom_30 rfl ?_
      refine g_sipush (v := 9999) G dX2_atom_31 rfl ?_
      obtain ⟨b10, hf⟩ := ckc_open hf
      refine bnx_split hf (fun g26 => ?_) (fun r10 h21 g25 hf => ?_)
      · exact p_callT (ci := 2) (As := [.int 0, .int 9999]) (rest := [.ref p8, .ref p8]) XT hM hl rfl b10 pcy_X2_number_2 q789 q791 qs15 (xX2_number_2 g26) rfl (Nat.lt_of_lt_of_le (by decide) hd) (Nat.le_of_ble_eq_true rfl) rfl dX2_atom_34
      refine p_callV_r (ci := 2) (As := [.int 0, .int 9999]) (rest := [.ref p8, .ref p8]) X hM hl rfl b10 pcy_X2_number_2 q789 q791 qs15 (kX2_number_2 g25) rfl (Nat.lt_of_lt_of_le (by decide) hd) (Nat.le_of_ble_eq_true rfl) rfl dX2_atom_34 (fun H locs hM => ?_)
      refine g_i2l (v := Int32.toInt64 r10) G dX2_atom_37 rfl ?_
      obtain ⟨h22, g27, hf⟩ := bnv_open hf
      refine p_callI_v (As := [.long (Int32.toInt64 r10)]) (rest := [.ref p8]) X hM hl pcy_X16_init rfl q1075 q1076 (kX16_init g27) rfl (Nat.lt_of_lt_of_le (by decide) hd) (Nat.le_of_ble_eq_true rfl) rfl dX2_atom_38 (fun H locs hM => ?_)
      exact absurd hf (by intro z; cases z)
  · have hf := it_pos c1 hf
    refine g_aload_n G dX2_atom_9 rfl (lv_at hl 0 rfl) ?_
    refine g_iconst (v := 0) G dX2_atom_10 rfl ?_
    obtain ⟨b11, hf⟩ := ckc_open hf
    refine bnx_split hf (fun g29 => ?_) (fun p9 h23 g28 hf => ?_)
    · exact p_callT (ci := 2) (As := [.int 0]) (rest := []) XT hM hl rfl b11 pcy_X2_within q1053 q1055 qs31 (xX2_within (d := d - 1) (by omega) okS (by omega) g29) rfl (by omega) (Nat.le_of_ble_eq_true rfl) rfl dX2_atom_11
    refine p_callV_r (ci := 2) (As := [.int 0]) (rest := []) X hM hl rfl b11 pcy_X2_within q1053 q1055 qs31 (kX2_within (d := d - 1) (by omega) okS (by omega) g28) rfl (by omega) (Nat.le_of_ble_eq_true rfl) rfl dX2_atom_11 (fun H locs hM => ?_)
    exact absurd hf (by intro z; cases z)
noncomputable def fX2_product_L20 (D : PD) (cap : Nat × Nat) (a0 : Nat) (rS : Nat → PH → Option ((Nat ⊕ Nat) × PH)) (rB : Nat → PH → Option ((Nat ⊕ Nat) × PH)) (p1 : Nat) (s20 : Bool → PH → Option ((Nat ⊕ Nat) × PH)) (x1 : Bool) (h5 : PH) : Option ((Nat ⊕ Nat) × PH) :=
  if (bI x1) = 0 then
    some (.inl p1, h5)
  else
    ckc (pCls h5 a0) 2 <|
    bnd (fX2_takes a0 42 h5) fun r1 h6 =>
    if (bI r1) = 0 then
      ckc (pCls h6 a0) 2 <|
      bnd (fX2_takes a0 47 h6) fun r2 h7 =>
      if (bI r2) = 0 then
        s20 false h7
      else
        ckc (pCls h7 a0) 2 <|
        bnx (fX2_atom D cap rS rB a0 h7) fun p3 h8 =>
        ckc (pCls h8 p1) 14 <|
        bnv (fX14_add D cap p1 47 p3 h8) fun h9 =>
        s20 x1 h9
    else
      ckc (pCls h6 a0) 2 <|
      bnx (fX2_atom D cap rS rB a0 h6) fun p4 h10 =>
      ckc (pCls h10 p1) 14 <|
      bnv (fX14_add D cap p1 42 p4 h10) fun h11 =>
      s20 x1 h11
noncomputable def fX2_product (D : PD) (cap : Nat × Nat) (rS : Nat → PH → Option ((Nat ⊕ Nat) × PH)) (rB : Nat → PH → Option ((Nat ⊕ Nat) × PH)) (a0 : Nat) (h : PH) : Option ((Nat ⊕ Nat) × PH) :=
  bnd (pNew cap h (.inr (14, [.null, .null])) 2) fun p1 h1 =>
  bnv (fX14_init D cap p1 h1) fun h2 =>
  ckc (pCls h2 a0) 2 <|
  bnx (fX2_atom D cap rS rB a0 h2) fun p2 h3 =>
  ckc (pCls h3 p1) 14 <|
  bnv (fX14_add D cap p1 42 p2 h3) fun h4 =>
  fx (fX2_product_L20 D cap a0 rS rB p1) (fun _ _ => none) FU true h4
set_option maxHeartbeats 1000000 in
theorem kX2_product {l : Launch} {D : PD} {A : Nat → Prop} {cap : Nat × Nat} {d : Nat} (hd : 9 ≤ d) {rS : Nat → PH → Option ((Nat ⊕ Nat) × PH)} {dS : Nat} (okS : OkR l D A cap yX2_sum cX2_sum 3 (Option.some (Jvm.ClassFile.FieldType.object "PupilsPupil$Value")) dS rS) (hdS : dS + 3 ≤ d) {rB : Nat → PH → Option ((Nat ⊕ Nat) × PH)} {dB : Nat} (okB : OkR l D A cap yX2_atom cX2_atom 3 (Option.some (Jvm.ClassFile.FieldType.object "PupilsPupil$Value")) dB rB) (hdB : dB + 3 ≤ d) {a0 : Nat} {h h' : PH} {r : Nat} (hf : fX2_product D cap rS rB a0 h = some (.inl r, h')) : CMet l D A cap yX2_product cX2_product 3 (Option.some (Jvm.ClassFile.FieldType.object "PupilsPupil$Value")) d [.ref a0] h h' (some (.ref r)) := by
  unfold fX2_product at hf
  refine p_head (own := RX2) (ini := false) (pn_X2 rfl) rfl (fun q => by cases q) (Nat.le_of_ble_eq_true rfl) (fun m Z cx sx H0 ls X hM hl => ?_)
  have G := X.g
  have hl : lv_has ls 3 [(0, .ref a0)] := hl
  obtain ⟨p1, h1, g1, hf⟩ := bnd_open hf
  refine p_new X hM pc_14 q1004 q1005 q174 (by decide +kernel) g1 dX2_product_0 (fun H locs hM => ?_)
  refine g_dup G dX2_product_3 rfl ?_
  obtain ⟨h2, g2, hf⟩ := bnv_open hf
  refine p_callIN_v (As := []) (rest := [.ref p1]) X hM hl pcy_X14_init rfl q1006 q1007 (kX14_init g2) rfl (Nat.lt_of_lt_of_le (by decide) hd) (Nat.le_of_ble_eq_true rfl) rfl dX2_product_4 (fun H locs hM => ?_)
  refine g_astore_n (i := 1) (lv' := [(1, .ref p1), (0, .ref a0)]) G dX2_product_7 rfl hl (Nat.le_of_ble_eq_true rfl) rfl (fun ls hl => ?_)
  refine g_aload_n G dX2_product_8 rfl (lv_at hl 0 rfl) ?_
  refine g_bipush (v := 42) G dX2_product_9 rfl ?_
  refine g_aload_n G dX2_product_11 rfl (lv_at hl 1 rfl) ?_
  obtain ⟨b1, hf⟩ := ckc_open hf
  obtain ⟨p2, h3, g3, hf⟩ := bnx_ret hf
  refine p_callV_r (ci := 2) (As := []) (rest := [.int 42, .ref p1]) X hM hl rfl b1 pcy_X2_atom q1049 q1051 qs30 (kX2_atom (d := d - 1) (by omega) okS (by omega) okB (by omega) g3) rfl (by omega) (Nat.le_of_ble_eq_true rfl) rfl dX2_product_12 (fun H locs hM => ?_)
  obtain ⟨b2, hf⟩ := ckc_open hf
  obtain ⟨h4, g5, hf⟩ := bnv_open hf
  refine p_callV_v (ci := 14) (As := [.int 42, .ref p2]) (rest := []) X hM hl rfl b2 pcy_X14_add q1119 q1120 q1121 (kX14_add g5) rfl (Nat.lt_of_lt_of_le (by decide) hd) (Nat.le_of_ble_eq_true rfl) rfl dX2_product_15 (fun H locs hM => ?_)
  refine g_iconst (v := 1) G dX2_product_18 rfl ?_
  refine g_istore_n (i := 2) (lv' := [(2, .int 1), (1, .ref p1), (0, .ref a0)]) G dX2_product_19 rfl hl (Nat.le_of_ble_eq_true rfl) rfl (fun ls hl => ?_)
  have L20 : ∀ (n : Nat) (x1 : Bool) (h5 : PH) (H : Heap) (locs : List Loc), fx (fX2_product_L20 D cap a0 rS rB p1) (fun _ _ => none) n x1 h5 = some (.inl r, h') → PI D A cap H0 h5 H locs → ∀ ls : Array Slot, lv_has ls 3 [(0, .ref a0), (1, .ref p1), (2, .int (bI x1))] → Z H locs (cx H) (sx H) (F0 m 20 ls []) := by
    intro n
    induction n with
    | zero => intro x1 h5 H locs hf; exact absurd hf (by intro q; cases q)
    | succ n ih20 =>
      intro x1 h5 H locs hf hM ls hl
      rw [fx_s] at hf
      generalize fx (fX2_product_L20 D cap a0 rS rB p1) (fun _ _ => none) n = s20 at hf ih20
      unfold fX2_product_L20 at hf
      refine g_iload_n G dX2_product_20 rfl (lv_at hl 2 rfl) ?_
      refine g_if_eq (tgt := 73) G dX2_product_21 rfl (fun c1 => ?_) (fun c1 => ?_)
      · have hf := it_pos c1 hf
        refine g_aload_n G dX2_product_73 rfl (lv_at hl 1 rfl) ?_
        cases hf
        exact p_aret X (Or.inl ⟨_, rfl⟩) hM rfl dX2_product_74
      · have hf := it_neg c1 hf
        refine g_aload_n G dX2_product_24 rfl (lv_at hl 0 rfl) ?_
        refine g_bipush (v := 42) G dX2_product_25 rfl ?_
        obtain ⟨b3, hf⟩ := ckc_open hf
        obtain ⟨r1, h6, g6, hf⟩ := bnd_open hf
        refine p_callV_r (ci := 2) (As := [.int 42]) (rest := []) X hM hl rfl b3 pcy_X2_takes q1180 q1182 qs33 (kX2_takes g6) rfl (Nat.lt_of_lt_of_le (by decide) hd) (Nat.le_of_ble_eq_true rfl) rfl dX2_product_27 (fun H locs hM => ?_)
        refine g_if_eq (tgt := 46) G dX2_product_30 rfl (fun c2 => ?_) (fun c2 => ?_)
        · have hf := it_pos c2 hf
          refine g_aload_n G dX2_product_46 rfl (lv_at hl 0 rfl) ?_
          refine g_bipush (v := 47) G dX2_product_47 rfl ?_
          obtain ⟨b4, hf⟩ := ckc_open hf
          obtain ⟨r2, h7, g7, hf⟩ := bnd_open hf
          refine p_callV_r (ci := 2) (As := [.int 47]) (rest := []) X hM hl rfl b4 pcy_X2_takes q1180 q1182 qs33 (kX2_takes g7) rfl (Nat.lt_of_lt_of_le (by decide) hd) (Nat.le_of_ble_eq_true rfl) rfl dX2_product_49 (fun H locs hM => ?_)
          refine g_if_eq (tgt := 68) G dX2_product_52 rfl (fun c3 => ?_) (fun c3 => ?_)
          · have hf := it_pos c3 hf
            refine g_iconst (v := 0) G dX2_product_68 rfl ?_
            refine g_istore_n (i := 2) (lv' := [(2, .int 0), (0, .ref a0), (1, .ref p1)]) G dX2_product_69 rfl hl (Nat.le_of_ble_eq_true rfl) rfl (fun ls hl => ?_)
            refine g_goto (tgt := 20) G dX2_product_70 rfl ?_
            exact ih20 _ _ _ _ hf hM ls (lv_sub hl [1, 2, 0] rfl)
          · have hf := it_neg c3 hf
            refine g_aload_n G dX2_product_55 rfl (lv_at hl 1 rfl) ?_
            refine g_bipush (v := 47) G dX2_product_56 rfl ?_
            refine g_aload_n G dX2_product_58 rfl (lv_at hl 0 rfl) ?_
            obtain ⟨b5, hf⟩ := ckc_open hf
            obtain ⟨p3, h8, g8, hf⟩ := bnx_ret hf
            refine p_callV_r (ci := 2) (As := []) (rest := [.int 47, .ref p1]) X hM hl rfl b5 pcy_X2_atom q1049 q1051 qs30 (kX2_atom (d := d - 1) (by omega) okS (by omega) okB (by omega) g8) rfl (by omega) (Nat.le_of_ble_eq_true rfl) rfl dX2_product_59 (fun H locs hM => ?_)
            obtain ⟨b6, hf⟩ := ckc_open hf
            obtain ⟨h9, g10, hf⟩ := bnv_open hf
            refine p_callV_v (ci := 14) (As := [.int 47, .ref p3]) (rest := []) X hM hl rfl b6 pcy_X14_add q1119 q1120 q1121 (kX14_add g10) rfl (Nat.lt_of_lt_of_le (by decide) hd) (Nat.le_of_ble_eq_true rfl) rfl dX2_product_62 (fun H locs hM => ?_)
            refine g_goto (tgt := 20) G dX2_product_65 rfl ?_
            exact ih20 _ _ _ _ hf hM ls (lv_sub hl [0, 1, 2] rfl)
        · have hf := it_neg c2 hf
          refine g_aload_n G dX2_product_33 rfl (lv_at hl 1 rfl) ?_
          refine g_bipush (v := 42) G dX2_product_34 rfl ?_
          refine g_aload_n G dX2_product_36 rfl (lv_at hl 0 rfl) ?_
          obtain ⟨b7, hf⟩ := ckc_open hf
          obtain ⟨p4, h10, g11, hf⟩ := bnx_ret hf
          refine p_callV_r (ci := 2) (As := []) (rest := [.int 42, .ref p1]) X hM hl rfl b7 pcy_X2_atom q1049 q1051 qs30 (kX2_atom (d := d - 1) (by omega) okS (by omega) okB (by omega) g11) rfl (by omega) (Nat.le_of_ble_eq_true rfl) rfl dX2_product_37 (fun H locs hM => ?_)
          obtain ⟨b8, hf⟩ := ckc_open hf
          obtain ⟨h11, g13, hf⟩ := bnv_open hf
          refine p_callV_v (ci := 14) (As := [.int 42, .ref p4]) (rest := []) X hM hl rfl b8 pcy_X14_add q1119 q1120 q1121 (kX14_add g13) rfl (Nat.lt_of_lt_of_le (by decide) hd) (Nat.le_of_ble_eq_true rfl) rfl dX2_product_40 (fun H locs hM => ?_)
          refine g_goto (tgt := 20) G dX2_product_43 rfl ?_
          exact ih20 _ _ _ _ hf hM ls (lv_sub hl [0, 1, 2] rfl)
  exact L20 FU _ _ _ _ hf hM ls (lv_sub hl [2, 1, 0] rfl)
set_option maxHeartbeats 1000000 in
theorem xX2_product {l : Launch} {D : PD} {A : Nat → Prop} {cap : Nat × Nat} {d : Nat} (hd : 9 ≤ d) {rS : Nat → PH → Option ((Nat ⊕ Nat) × PH)} {dS : Nat} (okS : OkR l D A cap yX2_sum cX2_sum 3 (Option.some (Jvm.ClassFile.FieldType.object "PupilsPupil$Value")) dS rS) (hdS : dS + 3 ≤ d) {rB : Nat → PH → Option ((Nat ⊕ Nat) × PH)} {dB : Nat} (okB : OkR l D A cap yX2_atom cX2_atom 3 (Option.some (Jvm.ClassFile.FieldType.object "PupilsPupil$Value")) dB rB) (hdB : dB + 3 ≤ d) {a0 : Nat} {h h' : PH} {q : Nat} (hf : fX2_product D cap rS rB a0 h = some (.inr q, h')) : XMet l D A cap yX2_product cX2_product 3 (Option.some (Jvm.ClassFile.FieldType.object "PupilsPupil$Value")) d [.ref a0] h h' (q) := by
  unfold fX2_product at hf
  refine p_headT (own := RX2) (ini := false) (pn_X2 rfl) rfl (fun q => by cases q) (Nat.le_of_ble_eq_true rfl) (fun m Z cx sx H0 ls X XT hM hl => ?_)
  have G := X.g
  have hl : lv_has ls 3 [(0, .ref a0)] := hl
  obtain ⟨p1, h1, g1, hf⟩ := bnd_open hf
  refine p_new X hM pc_14 q1004 q1005 q174 (by decide +kernel) g1 dX2_product_0 (fun H locs hM => ?_)
  refine g_dup G dX2_product_3 rfl ?_
  obtain ⟨h2, g2, hf⟩ := bnv_open hf
  refine p_callIN_v (As := []) (rest := [.ref p1]) X hM hl pcy_X14_init rfl q1006 q1007 (kX14_init g2) rfl (Nat.lt_of_lt_of_le (by decide) hd) (Nat.le_of_ble_eq_true rfl) rfl dX2_product_4 (fun H locs hM => ?_)
  refine g_astore_n (i := 1) (lv' := [(1, .ref p1), (0, .ref a0)]) G dX2_product_7 rfl hl (Nat.le_of_ble_eq_true rfl) rfl (fun ls hl => ?_)
  refine g_aload_n G dX2_product_8 rfl (lv_at hl 0 rfl) ?_
  refine g_bipush (v := 42) G dX2_product_9 rfl ?_
  refine g_aload_n G dX2_product_11 rfl (lv_at hl 1 rfl) ?_
  obtain ⟨b1, hf⟩ := ckc_open hf
  refine bnx_split hf (fun g4 => ?_) (fun p2 h3 g3 hf => ?_)
  · exact p_callT (ci := 2) (As := []) (rest := [.int 42, .ref p1]) XT hM hl rfl b1 pcy_X2_atom q1049 q1051 qs30 (xX2_atom (d := d - 1) (by omega) okS (by omega) okB (by omega) g4) rfl (by omega) (Nat.le_of_ble_eq_true rfl) rfl dX2_product_12
  refine p_callV_r (ci := 2) (As := []) (rest := [.int 42, .ref p1]) X hM hl rfl b1 pcy_X2_atom q1049 q1051 qs30 (kX2_atom (d := d - 1) (by omega) okS (by omega) okB (by omega) g3) rfl (by omega) (Nat.le_of_ble_eq_true rfl) rfl dX2_product_12 (fun H locs hM => ?_)
  obtain ⟨b2, hf⟩ := ckc_open hf
  obtain ⟨h4, g5, hf⟩ := bnv_open hf
  refine p_callV_v (ci := 14) (As := [.int 42, .ref p2]) (rest := []) X hM hl rfl b2 pcy_X14_add q1119 q1120 q1121 (kX14_add g5) rfl (Nat.lt_of_lt_of_le (by decide) hd) (Nat.le_of_ble_eq_true rfl) rfl dX2_product_15 (fun H locs hM => ?_)
  refine g_iconst (v := 1) G dX2_product_18 rfl ?_
  refine g_istore_n (i := 2) (lv' := [(2, .int 1), (1, .ref p1), (0, .ref a0)]) G dX2_product_19 rfl hl (Nat.le_of_ble_eq_true rfl) rfl (fun ls hl => ?_)
  have L20 : ∀ (n : Nat) (x1 : Bool) (h5 : PH) (H : Heap) (locs : List Loc), fx (fX2_product_L20 D cap a0 rS rB p1) (fun _ _ => none) n x1 h5 = some (.inr q, h') → PI D A cap H0 h5 H locs → ∀ ls : Array Slot, lv_has ls 3 [(0, .ref a0), (1, .ref p1), (2, .int (bI x1))] → Z H locs (cx H) (sx H) (F0 m 20 ls []) := by
    intro n
    induction n with
    | zero => intro x1 h5 H locs hf; exact absurd hf (by intro q; cases q)
    | succ n ih20 =>
      intro x1 h5 H locs hf hM ls hl
      rw [fx_s] at hf
      generalize fx (fX2_product_L20 D cap a0 rS rB p1) (fun _ _ => none) n = s20 at hf ih20
      unfold fX2_product_L20 at hf
      refine g_iload_n G dX2_product_20 rfl (lv_at hl 2 rfl) ?_
      refine g_if_eq (tgt := 73) G dX2_product_21 rfl (fun c1 => ?_) (fun c1 => ?_)
      · have hf := it_pos c1 hf
        refine g_aload_n G dX2_product_73 rfl (lv_at hl 1 rfl) ?_
        exact absurd hf (by intro z; cases z)
      · have hf := it_neg c1 hf
        refine g_aload_n G dX2_product_24 rfl (lv_at hl 0 rfl) ?_
        refine g_bipush (v := 42) G dX2_product_25 rfl ?_
        obtain ⟨b3, hf⟩ := ckc_open hf
        obtain ⟨r1, h6, g6, hf⟩ := bnd_open hf
        refine p_callV_r (ci := 2) (As := [.int 42]) (rest := []) X hM hl rfl b3 pcy_X2_takes q1180 q1182 qs33 (kX2_takes g6) rfl (Nat.lt_of_lt_of_le (by decide) hd) (Nat.le_of_ble_eq_true rfl) rfl dX2_product_27 (fun H locs hM => ?_)
        refine g_if_eq (tgt := 46) G dX2_product_30 rfl (fun c2 => ?_) (fun c2 => ?_)
        · have hf := it_pos c2 hf
          refine g_aload_n G dX2_product_46 rfl (lv_at hl 0 rfl) ?_
          refine g_bipush (v := 47) G dX2_product_47 rfl ?_
          obtain ⟨b4, hf⟩ := ckc_open hf
          obtain ⟨r2, h7, g7, hf⟩ := bnd_open hf
          refine p_callV_r (ci := 2) (As := [.int 47]) (rest := []) X hM hl rfl b4 pcy_X2_takes q1180 q1182 qs33 (kX2_takes g7) rfl (Nat.lt_of_lt_of_le (by decide) hd) (Nat.le_of_ble_eq_true rfl) rfl dX2_product_49 (fun H locs hM => ?_)
          refine g_if_eq (tgt := 68) G dX2_product_52 rfl (fun c3 => ?_) (fun c3 => ?_)
          · have hf := it_pos c3 hf
            refine g_iconst (v := 0) G dX2_product_68 rfl ?_
            refine g_istore_n (i := 2) (lv' := [(2, .int 0), (0, .ref a0), (1, .ref p1)]) G dX2_product_69 rfl hl (Nat.le_of_ble_eq_true rfl) rfl (fun ls hl => ?_)
            refine g_goto (tgt := 20) G dX2_product_70 rfl ?_
            exact ih20 _ _ _ _ hf hM ls (lv_sub hl [1, 2, 0] rfl)
          · have hf := it_neg c3 hf
            refine g_aload_n G dX2_product_55 rfl (lv_at hl 1 rfl) ?_
            refine g_bipush (v := 47) G dX2_product_56 rfl ?_
            refine g_aload_n G dX2_product_58 rfl (lv_at hl 0 rfl) ?_
            obtain ⟨b5, hf⟩ := ckc_open hf
            refine bnx_split hf (fun g9 => ?_) (fun p3 h8 g8 hf => ?_)
            · exact p_callT (ci := 2) (As := []) (rest := [.int 47, .ref p1]) XT hM hl rfl b5 pcy_X2_atom q1049 q1051 qs30 (xX2_atom (d := d - 1) (by omega) okS (by omega) okB (by omega) g9) rfl (by omega) (Nat.le_of_ble_eq_true rfl) rfl dX2_product_59
            refine p_callV_r (ci := 2) (As := []) (rest := [.int 47, .ref p1]) X hM hl rfl b5 pcy_X2_atom q1049 q1051 qs30 (kX2_atom (d := d - 1) (by omega) okS (by omega) okB (by omega) g8) rfl (by omega) (Nat.le_of_ble_eq_true rfl) rfl dX2_product_59 (fun H locs hM => ?_)
            obtain ⟨b6, hf⟩ := ckc_open hf
            obtain ⟨h9, g10, hf⟩ := bnv_open hf
            refine p_callV_v (ci := 14) (As := [.int 47, .ref p3]) (rest := []) X hM hl rfl b6 pcy_X14_add q1119 q1120 q1121 (kX14_add g10) rfl (Nat.lt_of_lt_of_le (by decide) hd) (Nat.le_of_ble_eq_true rfl) rfl dX2_product_62 (fun H locs hM => ?_)
            refine g_goto (tgt := 20) G dX2_product_65 rfl ?_
            exact ih20 _ _ _ _ hf hM ls (lv_sub hl [0, 1, 2] rfl)
        · have hf := it_neg c2 hf
          refine g_aload_n G dX2_product_33 rfl (lv_at hl 1 rfl) ?_
          refine g_bipush (v := 42) G dX2_product_34 rfl ?_
          refine g_aload_n G dX2_product_36 rfl (lv_at hl 0 rfl) ?_
          obtain ⟨b7, hf⟩ := ckc_open hf
          refine bnx_split hf (fun g12 => ?_) (fun p4 h10 g11 hf => ?_)
          · exact p_callT (ci := 2) (As := []) (rest := [.int 42, .ref p1]) XT hM hl rfl b7 pcy_X2_atom q1049 q1051 qs30 (xX2_atom (d := d - 1) (by omega) okS (by omega) okB (by omega) g12) rfl (by omega) (Nat.le_of_ble_eq_true rfl) rfl dX2_product_37
          refine p_callV_r (ci := 2) (As := []) (rest := [.int 42, .ref p1]) X hM hl rfl b7 pcy_X2_atom q1049 q1051 qs30 (kX2_atom (d := d - 1) (by omega) okS (by omega) okB (by omega) g11) rfl (by omega) (Nat.le_of_ble_eq_true rfl) rfl dX2_product_37 (fun H locs hM => ?_)
          obtain ⟨b8, hf⟩ := ckc_open hf
          obtain ⟨h11, g13, hf⟩ := bnv_open hf
          refine p_callV_v (ci := 14) (As := [.int 42, .ref p4]) (rest := []) X hM hl rfl b8 pcy_X14_add q1119 q1120 q1121 (kX14_add g13) rfl (Nat.lt_of_lt_of_le (by decide) hd) (Nat.le_of_ble_eq_true rfl) rfl dX2_product_40 (fun H locs hM => ?_)
          refine g_goto (tgt := 20) G dX2_product_43 rfl ?_
          exact ih20 _ _ _ _ hf hM ls (lv_sub hl [0, 1, 2] rfl)
  exact L20 FU _ _ _ _ hf hM ls (lv_sub hl [2, 1, 0] rfl)
noncomputable def fX2_sum_L20 (D : PD) (cap : Nat × Nat) (a0 : Nat) (rS : Nat → PH → Option ((Nat ⊕ Nat) × PH)) (rB : Nat → PH → Option ((Nat ⊕ Nat) × PH)) (p1 : Nat) (s20 : Bool → PH → Option ((Nat ⊕ Nat) × PH)) (x1 : Bool) (h5 : PH) : Option ((Nat ⊕ Nat) × PH) :=
  if (bI x1) = 0 then
    some (.inl p1, h5)
  else
    ckc (pCls h5 a0) 2 <|
    bnd (fX2_takes a0 43 h5) fun r1 h6 =>
    if (bI r1) = 0 then
      ckc (pCls h6 a0) 2 <|
      bnd (fX2_takes a0 45 h6) fun r2 h7 =>
      if (bI r2) = 0 then
        s20 false h7
      else
        ckc (pCls h7 a0) 2 <|
        bnx (fX2_product D cap rS rB a0 h7) fun p3 h8 =>
        ckc (pCls h8 p1) 14 <|
        bnv (fX14_add D cap p1 45 p3 h8) fun h9 =>
        s20 x1 h9
    else
      ckc (pCls h6 a0) 2 <|
      bnx (fX2_product D cap rS rB a0 h6) fun p4 h10 =>
      ckc (pCls h10 p1) 14 <|
      bnv (fX14_add D cap p1 43 p4 h10) fun h11 =>
      s20 x1 h11
noncomputable def fX2_sum (D : PD) (cap : Nat × Nat) (rS : Nat → PH → Option ((Nat ⊕ Nat) × PH)) (rB : Nat → PH → Option ((Nat ⊕ Nat) × PH)) (a0 : Nat) (h : PH) : Option ((Nat ⊕ Nat) × PH) :=
  bnd (pNew cap h (.inr (14, [.null, .null])) 2) fun p1 h1 =>
  bnv (fX14_init D cap p1 h1) fun h2 =>
  ckc (pCls h2 a0) 2 <|
  bnx (fX2_product D cap rS rB a0 h2) fun p2 h3 =>
  ckc (pCls h3 p1) 14 <|
  bnv (fX14_add D cap p1 43 p2 h3) fun h4 =>
  fx (fX2_sum_L20 D cap a0 rS rB p1) (fun _ _ => none) FU true h4
set_option maxHeartbeats 1000000 in
theorem kX2_sum {l : Launch} {D : PD} {A : Nat → Prop} {cap : Nat × Nat} {d : Nat} (hd : 10 ≤ d) {rS : Nat → PH → Option ((Nat ⊕ Nat) × PH)} {dS : Nat} (okS : OkR l D A cap yX2_sum cX2_sum 3 (Option.some (Jvm.ClassFile.FieldType.object "PupilsPupil$Value")) dS rS) (hdS : dS + 4 ≤ d) {rB : Nat → PH → Option ((Nat ⊕ Nat) × PH)} {dB : Nat} (okB : OkR l D A cap yX2_atom cX2_atom 3 (Option.some (Jvm.ClassFile.FieldType.object "PupilsPupil$Value")) dB rB) (hdB : dB + 4 ≤ d) {a0 : Nat} {h h' : PH} {r : Nat} (hf : fX2_sum D cap rS rB a0 h = some (.inl r, h')) : CMet l D A cap yX2_sum cX2_sum 3 (Option.some (Jvm.ClassFile.FieldType.object "PupilsPupil$Value")) d [.ref a0] h h' (some (.ref r)) := by
  unfold fX2_sum at hf
  refine p_head (own := RX2) (ini := false) (pn_X2 rfl) rfl (fun q => by cases q) (Nat.le_of_ble_eq_true rfl) (fun m Z cx sx H0 ls X hM hl => ?_)
  have G := X.g
  have hl : lv_has ls 3 [(0, .ref a0)] := hl
  obtain ⟨p1, h1, g1, hf⟩ := bnd_open hf
  refine p_new X hM pc_14 q1004 q1005 q174 (by decide +kernel) g1 dX2_sum_0 (fun H locs hM => ?_)
  refine g_dup G dX2_sum_3 rfl ?_
  obtain ⟨h2, g2, hf⟩ := bnv_open hf
  refine p_callIN_v (As := []) (rest := [.ref p1]) X hM hl pcy_X14_init rfl q1006 q1007 (kX14_init g2) rfl (Nat.lt_of_lt_of_le (by decide) hd) (Nat.le_of_ble_eq_true rfl) rfl dX2_sum_4 (fun H locs hM => ?_)
  refine g_astore_n (i := 1) (lv' := [(1, .ref p1), (0, .ref a0)]) G dX2_sum_7 rfl hl (Nat.le_of_ble_eq_true rfl) rfl (fun ls hl => ?_)
  refine g_aload_n G dX2_sum_8 rfl (lv_at hl 0 rfl) ?_
  refine g_bipush (v := 43) G dX2_sum_9 rfl ?_
  refine g_aload_n G dX2_sum_11 rfl (lv_at hl 1 rfl) ?_
  obtain ⟨b1, hf⟩ := ckc_open hf
  obtain ⟨p2, h3, g3, hf⟩ := bnx_ret hf
  refine p_callV_r (ci := 2) (As := []) (rest := [.int 43, .ref p1]) X hM hl rfl b1 pcy_X2_product q1045 q1047 qs29 (kX2_product (d := d - 1) (by omega) okS (by omega) okB (by omega) g3) rfl (by omega) (Nat.le_of_ble_eq_true rfl) rfl dX2_sum_12 (fun H locs hM => ?_)
  obtain ⟨b2, hf⟩ := ckc_open hf
  obtain ⟨h4, g5, hf⟩ := bnv_open hf
  refine p_callV_v (ci := 14) (As := [.int 43, .ref p2]) (rest := []) X hM hl rfl b2 pcy_X14_add q1119 q1120 q1121 (kX14_add g5) rfl (Nat.lt_of_lt_of_le (by decide) hd) (Nat.le_of_ble_eq_true rfl) rfl dX2_sum_15 (fun H locs hM => ?_)
  refine g_iconst (v := 1) G dX2_sum_18 rfl ?_
  refine g_istore_n (i := 2) (lv' := [(2, .int 1), (1, .ref p1), (0, .ref a0)]) G dX2_sum_19 rfl hl (Nat.le_of_ble_eq_true rfl) rfl (fun ls hl => ?_)
  have L20 : ∀ (n : Nat) (x1 : Bool) (h5 : PH) (H : Heap) (locs : List Loc), fx (fX2_sum_L20 D cap a0 rS rB p1) (fun _ _ => none) n x1 h5 = some (.inl r, h') → PI D A cap H0 h5 H locs → ∀ ls : Array Slot, lv_has ls 3 [(0, .ref a0), (1, .ref p1), (2, .int (bI x1))] → Z H locs (cx H) (sx H) (F0 m 20 ls []) := by
    intro n
    induction n with
    | zero => intro x1 h5 H locs hf; exact absurd hf (by intro q; cases q)
    | succ n ih20 =>
      intro x1 h5 H locs hf hM ls hl
      rw [fx_s] at hf
      generalize fx (fX2_sum_L20 D cap a0 rS rB p1) (fun _ _ => none) n = s20 at hf ih20
      unfold fX2_sum_L20 at hf
      refine g_iload_n G dX2_sum_20 rfl (lv_at hl 2 rfl) ?_
      refine g_if_eq (tgt := 73) G dX2_sum_21 rfl (fun c1 => ?_) (fun c1 => ?_)
      · have hf := it_pos c1 hf
        refine g_aload_n G dX2_sum_73 rfl (lv_at hl 1 rfl) ?_
        cases hf
        exact p_aret X (Or.inl ⟨_, rfl⟩) hM rfl dX2_sum_74
      · have hf := it_neg c1 hf
        refine g_aload_n G dX2_sum_24 rfl (lv_at hl 0 rfl) ?_
        refine g_bipush (v := 43) G dX2_sum_25 rfl ?_
        obtain ⟨b3, hf⟩ := ckc_open hf
        obtain ⟨r1, h6, g6, hf⟩ := bnd_open hf
        refine p_callV_r (ci := 2) (As := [.int 43]) (rest := []) X hM hl rfl b3 pcy_X2_takes q1180 q1182 qs33 (kX2_takes g6) rfl (Nat.lt_of_lt_of_le (by decide) hd) (Nat.le_of_ble_eq_true rfl) rfl dX2_sum_27 (fun H locs hM => ?_)
        refine g_if_eq (tgt := 46) G dX2_sum_30 rfl (fun c2 => ?_) (fun c2 => ?_)
        · have hf := it_pos c2 hf
          refine g_aload_n G dX2_sum_46 rfl (lv_at hl 0 rfl) ?_
          refine g_bipush (v := 45) G dX2_sum_47 rfl ?_
          obtain ⟨b4, hf⟩ := ckc_open hf
          obtain ⟨r2, h7, g7, hf⟩ := bnd_open hf
          refine p_callV_r (ci := 2) (As := [.int 45]) (rest := []) X hM hl rfl b4 pcy_X2_takes q1180 q1182 qs33 (kX2_takes g7) rfl (Nat.lt_of_lt_of_le (by decide) hd) (Nat.le_of_ble_eq_true rfl) rfl dX2_sum_49 (fun H locs hM => ?_)
          refine g_if_eq (tgt := 68) G dX2_sum_52 rfl (fun c3 => ?_) (fun c3 => ?_)
          · have hf := it_pos c3 hf
            refine g_iconst (v := 0) G dX2_sum_68 rfl ?_
            refine g_istore_n (i := 2) (lv' := [(2, .int 0), (0, .ref a0), (1, .ref p1)]) G dX2_sum_69 rfl hl (Nat.le_of_ble_eq_true rfl) rfl (fun ls hl => ?_)
            refine g_goto (tgt := 20) G dX2_sum_70 rfl ?_
            exact ih20 _ _ _ _ hf hM ls (lv_sub hl [1, 2, 0] rfl)
          · have hf := it_neg c3 hf
            refine g_aload_n G dX2_sum_55 rfl (lv_at hl 1 rfl) ?_
            refine g_bipush (v := 45) G dX2_sum_56 rfl ?_
            refine g_aload_n G dX2_sum_58 rfl (lv_at hl 0 rfl) ?_
            obtain ⟨b5, hf⟩ := ckc_open hf
            obtain ⟨p3, h8, g8, hf⟩ := bnx_ret hf
            refine p_callV_r (ci := 2) (As := []) (rest := [.int 45, .ref p1]) X hM hl rfl b5 pcy_X2_product q1045 q1047 qs29 (kX2_product (d := d - 1) (by omega) okS (by omega) okB (by omega) g8) rfl (by omega) (Nat.le_of_ble_eq_true rfl) rfl dX2_sum_59 (fun H locs hM => ?_)
            obtain ⟨b6, hf⟩ := ckc_open hf
            obtain ⟨h9, g10, hf⟩ := bnv_open hf
            refine p_callV_v (ci := 14) (As := [.int 45, .ref p3]) (rest := []) X hM hl rfl b6 pcy_X14_add q1119 q1120 q1121 (kX14_add g10) rfl (Nat.lt_of_lt_of_le (by decide) hd) (Nat.le_of_ble_eq_true rfl) rfl dX2_sum_62 (fun H locs hM => ?_)
            refine g_goto (tgt := 20) G dX2_sum_65 rfl ?_
            exact ih20 _ _ _ _ hf hM ls (lv_sub hl [0, 1, 2] rfl)
        · have hf := it_neg c2 hf
          refine g_aload_n G dX2_sum_33 rfl (lv_at hl 1 rfl) ?_
          refine g_bipush (v := 43) G dX2_sum_34 rfl ?_
          refine g_aload_n G dX2_sum_36 rfl (lv_at hl 0 rfl) ?_
          obtain ⟨b7, hf⟩ := ckc_open hf
          obtain ⟨p4, h10, g11, hf⟩ := bnx_ret hf
          refine p_callV_r (ci := 2) (As := []) (rest := [.int 43, .ref p1]) X hM hl rfl b7 pcy_X2_product q1045 q1047 qs29 (kX2_product (d := d - 1) (by omega) okS (by omega) okB (by omega) g11) rfl (by omega) (Nat.le_of_ble_eq_true rfl) rfl dX2_sum_37 (fun H locs hM => ?_)
          obtain ⟨b8, hf⟩ := ckc_open hf
          obtain ⟨h11, g13, hf⟩ := bnv_open hf
          refine p_callV_v (ci := 14) (As := [.int 43, .ref p4]) (rest := []) X hM hl rfl b8 pcy_X14_add q1119 q1120 q1121 (kX14_add g13) rfl (Nat.lt_of_lt_of_le (by decide) hd) (Nat.le_of_ble_eq_true rfl) rfl dX2_sum_40 (fun H locs hM => ?_)
          refine g_goto (tgt := 20) G dX2_sum_43 rfl ?_
          exact ih20 _ _ _ _ hf hM ls (lv_sub hl [0, 1, 2] rfl)
  exact L20 FU _ _ _ _ hf hM ls (lv_sub hl [2, 1, 0] rfl)
set_option maxHeartbeats 1000000 in
theorem xX2_sum {l : Launch} {D : PD} {A : Nat → Prop} {cap : Nat × Nat} {d : Nat} (hd : 10 ≤ d) {rS : Nat → PH → Option ((Nat ⊕ Nat) × PH)} {dS : Nat} (okS : OkR l D A cap yX2_sum cX2_sum 3 (Option.some (Jvm.ClassFile.FieldType.object "PupilsPupil$Value")) dS rS) (hdS : dS + 4 ≤ d) {rB : Nat → PH → Option ((Nat ⊕ Nat) × PH)} {dB : Nat} (okB : OkR l D A cap yX2_atom cX2_atom 3 (Option.some (Jvm.ClassFile.FieldType.object "PupilsPupil$Value")) dB rB) (hdB : dB + 4 ≤ d) {a0 : Nat} {h h' : PH} {q : Nat} (hf : fX2_sum D cap rS rB a0 h = some (.inr q, h')) : XMet l D A cap yX2_sum cX2_sum 3 (Option.some (Jvm.ClassFile.FieldType.object "PupilsPupil$Value")) d [.ref a0] h h' (q) := by
  unfold fX2_sum at hf
  refine p_headT (own := RX2) (ini := false) (pn_X2 rfl) rfl (fun q => by cases q) (Nat.le_of_ble_eq_true rfl) (fun m Z cx sx H0 ls X XT hM hl => ?_)
  have G := X.g
  have hl : lv_has ls 3 [(0, .ref a0)] := hl
  obtain ⟨p1, h1, g1, hf⟩ := bnd_open hf
  refine p_new X hM pc_14 q1004 q1005 q174 (by decide +kernel) g1 dX2_sum_0 (fun H locs hM => ?_)
  refine g_dup G dX2_sum_3 rfl ?_
  obtain ⟨h2, g2, hf⟩ := bnv_open hf
  refine p_callIN_v (As := []) (rest := [.ref p1]) X hM hl pcy_X14_init rfl q1006 q1007 (kX14_init g2) rfl (Nat.lt_of_lt_of_le (by decide) hd) (Nat.le_of_ble_eq_true rfl) rfl dX2_sum_4 (fun H locs hM => ?_)
  refine g_astore_n (i := 1) (lv' := [(1, .ref p1), (0, .ref a0)]) G dX2_sum_7 rfl hl (Nat.le_of_ble_eq_true rfl) rfl (fun ls hl => ?_)
  refine g_aload_n G dX2_sum_8 rfl (lv_at hl 0 rfl) ?_
  refine g_bipush (v := 43) G dX2_sum_9 rfl ?_
  refine g_aload_n G dX2_sum_11 rfl (lv_at hl 1 rfl) ?_
  obtain ⟨b1, hf⟩ := ckc_open hf
  refine bnx_split hf (fun g4 => ?_) (fun p2 h3 g3 hf => ?_)
  · exact p_callT (ci := 2) (As := []) (rest := [.int 43, .ref p1]) XT hM hl rfl b1 pcy_X2_product q1045 q1047 qs29 (xX2_product (d := d - 1) (by omega) okS (by omega) okB (by omega) g4) rfl (by omega) (Nat.le_of_ble_eq_true rfl) rfl dX2_sum_12
  refine p_callV_r (ci := 2) (As := []) (rest := [.int 43, .ref p1]) X hM hl rfl b1 pcy_X2_product q1045 q1047 qs29 (kX2_product (d := d - 1) (by omega) okS (by omega) okB (by omega) g3) rfl (by omega) (Nat.le_of_ble_eq_true rfl) rfl dX2_sum_12 (fun H locs hM => ?_)
  obtain ⟨b2, hf⟩ := ckc_open hf
  obtain ⟨h4, g5, hf⟩ := bnv_open hf
  refine p_callV_v (ci := 14) (As := [.int 43, .ref p2]) (rest := []) X hM hl rfl b2 pcy_X14_add q1119 q1120 q1121 (kX14_add g5) rfl (Nat.lt_of_lt_of_le (by decide) hd) (Nat.le_of_ble_eq_true rfl) rfl dX2_sum_15 (fun H locs hM => ?_)
  refine g_iconst (v := 1) G dX2_sum_18 rfl ?_
  refine g_istore_n (i := 2) (lv' := [(2, .int 1), (1, .ref p1), (0, .ref a0)]) G dX2_sum_19 rfl hl (Nat.le_of_ble_eq_true rfl) rfl (fun ls hl => ?_)
  have L20 : ∀ (n : Nat) (x1 : Bool) (h5 : PH) (H : Heap) (locs : List Loc), fx (fX2_sum_L20 D cap a0 rS rB p1) (fun _ _ => none) n x1 h5 = some (.inr q, h') → PI D A cap H0 h5 H locs → ∀ ls : Array Slot, lv_has ls 3 [(0, .ref a0), (1, .ref p1), (2, .int (bI x1))] → Z H locs (cx H) (sx H) (F0 m 20 ls []) := by
    intro n
    induction n with
    | zero => intro x1 h5 H locs hf; exact absurd hf (by intro q; cases q)
    | succ n ih20 =>
      intro x1 h5 H locs hf hM ls hl
      rw [fx_s] at hf
      generalize fx (fX2_sum_L20 D cap a0 rS rB p1) (fun _ _ => none) n = s20 at hf ih20
      unfold fX2_sum_L20 at hf
      refine g_iload_n G dX2_sum_20 rfl (lv_at hl 2 rfl) ?_
      refine g_if_eq (tgt := 73) G dX2_sum_21 rfl (fun c1 => ?_) (fun c1 => ?_)
      · have hf := it_pos c1 hf
        refine g_aload_n G dX2_sum_73 rfl (lv_at hl 1 rfl) ?_
        exact absurd hf (by intro z; cases z)
      · have hf := it_neg c1 hf
        refine g_aload_n G dX2_sum_24 rfl (lv_at hl 0 rfl) ?_
        refine g_bipush (v := 43) G dX2_sum_25 rfl ?_
        obtain ⟨b3, hf⟩ := ckc_open hf
        obtain ⟨r1, h6, g6, hf⟩ := bnd_open hf
        refine p_callV_r (ci := 2) (As := [.int 43]) (rest := []) X hM hl rfl b3 pcy_X2_takes q1180 q1182 qs33 (kX2_takes g6) rfl (Nat.lt_of_lt_of_le (by decide) hd) (Nat.le_of_ble_eq_true rfl) rfl dX2_sum_27 (fun H locs hM => ?_)
        refine g_if_eq (tgt := 46) G dX2_sum_30 rfl (fun c2 => ?_) (fun c2 => ?_)
        · have hf := it_pos c2 hf
          refine g_aload_n G dX2_sum_46 rfl (lv_at hl 0 rfl) ?_
          refine g_bipush (v := 45) G dX2_sum_47 rfl ?_
          obtain ⟨b4, hf⟩ := ckc_open hf
          obtain ⟨r2, h7, g7, hf⟩ := bnd_open hf
          refine p_callV_r (ci := 2) (As := [.int 45]) (rest := []) X hM hl rfl b4 pcy_X2_takes q1180 q1182 qs33 (kX2_takes g7) rfl (Nat.lt_of_lt_of_le (by decide) hd) (Nat.le_of_ble_eq_true rfl) rfl dX2_sum_49 (fun H locs hM => ?_)
          refine g_if_eq (tgt := 68) G dX2_sum_52 rfl (fun c3 => ?_) (fun c3 => ?_)
          · have hf := it_pos c3 hf
            refine g_iconst (v := 0) G dX2_sum_68 rfl ?_
            refine g_istore_n (i := 2) (lv' := [(2, .int 0), (0, .ref a0), (1, .ref p1)]) G dX2_sum_69 rfl hl (Nat.le_of_ble_eq_true rfl) rfl (fun ls hl => ?_)
            refine g_goto (tgt := 20) G dX2_sum_70 rfl ?_
            exact ih20 _ _ _ _ hf hM ls (lv_sub hl [1, 2, 0] rfl)
          · have hf := it_neg c3 hf
            refine g_aload_n G dX2_sum_55 rfl (lv_at hl 1 rfl) ?_
            refine g_bipush (v := 45) G dX2_sum_56 rfl ?_
            refine g_aload_n G dX2_sum_58 rfl (lv_at hl 0 rfl) ?_
            obtain ⟨b5, hf⟩ := ckc_open hf
            refine bnx_split hf (fun g9 => ?_) (fun p3 h8 g8 hf => ?_)
            · exact p_callT (ci := 2) (As := []) (rest := [.int 45, .ref p1]) XT hM hl rfl b5 pcy_X2_product q1045 q1047 qs29 (xX2_product (d := d - 1) (by omega) okS (by omega) okB (by omega) g9) rfl (by omega) (Nat.le_of_ble_eq_true rfl) rfl dX2_sum_59
            refine p_callV_r (ci := 2) (As := []) (rest := [.int 45, .ref p1]) X hM hl rfl b5 pcy_X2_product q1045 q1047 qs29 (kX2_product (d := d - 1) (by omega) okS (by omega) okB (by omega) g8) rfl (by omega) (Nat.le_of_ble_eq_true rfl) rfl dX2_sum_59 (fun H locs hM => ?_)
            obtain ⟨b6, hf⟩ := ckc_open hf
            obtain ⟨h9, g10, hf⟩ := bnv_open hf
            refine p_callV_v (ci := 14) (As := [.int 45, .ref p3]) (rest := []) X hM hl rfl b6 pcy_X14_add q1119 q1120 q1121 (kX14_add g10) rfl (Nat.lt_of_lt_of_le (by decide) hd) (Nat.le_of_ble_eq_true rfl) rfl dX2_sum_62 (fun H locs hM => ?_)
            refine g_goto (tgt := 20) G dX2_sum_65 rfl ?_
            exact ih20 _ _ _ _ hf hM ls (lv_sub hl [0, 1, 2] rfl)
        · have hf := it_neg c2 hf
          refine g_aload_n G dX2_sum_33 rfl (lv_at hl 1 rfl) ?_
          refine g_bipush (v := 43) G dX2_sum_34 rfl ?_
          refine g_aload_n G dX2_sum_36 rfl (lv_at hl 0 rfl) ?_
          obtain ⟨b7, hf⟩ := ckc_open hf
          refine bnx_split hf (fun g12 => ?_) (fun p4 h10 g11 hf => ?_)
          · exact p_callT (ci := 2) (As := []) (rest := [.int 43, .ref p1]) XT hM hl rfl b7 pcy_X2_product q1045 q1047 qs29 (xX2_product (d := d - 1) (by omega) okS (by omega) okB (by omega) g12) rfl (by omega) (Nat.le_of_ble_eq_true rfl) rfl dX2_sum_37
          refine p_callV_r (ci := 2) (As := []) (rest := [.int 43, .ref p1]) X hM hl rfl b7 pcy_X2_product q1045 q1047 qs29 (kX2_product (d := d - 1) (by omega) okS (by omega) okB (by omega) g11) rfl (by omega) (Nat.le_of_ble_eq_true rfl) rfl dX2_sum_37 (fun H locs hM => ?_)
          obtain ⟨b8, hf⟩ := ckc_open hf
          obtain ⟨h11, g13, hf⟩ := bnv_open hf
          refine p_callV_v (ci := 14) (As := [.int 43, .ref p4]) (rest := []) X hM hl rfl b8 pcy_X14_add q1119 q1120 q1121 (kX14_add g13) rfl (Nat.lt_of_lt_of_le (by decide) hd) (Nat.le_of_ble_eq_true rfl) rfl dX2_sum_40 (fun H locs hM => ?_)
          refine g_goto (tgt := 20) G dX2_sum_43 rfl ?_
          exact ih20 _ _ _ _ hf hM ls (lv_sub hl [0, 1, 2] rfl)
  exact L20 FU _ _ _ _ hf hM ls (lv_sub hl [2, 1, 0] rfl)
noncomputable def fX2_fact (D : PD) (cap : Nat × Nat) (rS : Nat → PH → Option ((Nat ⊕ Nat) × PH)) (rB : Nat → PH → Option ((Nat ⊕ Nat) × PH)) (rU : Nat → PH → Option ((Nat ⊕ Nat) × PH)) (rF : Nat → PH → Option ((Nat ⊕ Nat) × PH)) (a0 : Nat) (h : PH) : Option ((Nat ⊕ Nat) × PH) :=
  ckc (pCls h a0) 2 <|
  bnd (fX2_here a0 h) fun r1 h1 =>
  if r1 = (91 : Int32) then
    vI (pF h1 a0 2 2) fun v5 =>
    ckc (pCls h1 a0) 2 <|
    bnx (fX2_opens a0 v5 h1) fun u2 h19 =>
    vI (pF h19 a0 2 2) fun v6 =>
    bnv (pPut h19 a0 2 2 (.int (v6 + 1))) fun h20 =>
    ckc (pCls h20 a0) 2 <|
    bnx (rU a0 h20) fun p8 h21 =>
    ckc (pCls h21 a0) 2 <|
    bnx (fX2_must a0 93 h21) fun u3 h22 =>
    vI (pF h22 a0 2 4) fun v7 =>
    bnv (pPut h22 a0 2 4 (.int (v7 - 1))) fun h23 =>
    some (.inl p8, h23)
  else
    ckc (pCls h1 a0) 2 <|
    bnx (fX2_passes D cap a0 (dK D 14) h1) fun r2 h2 =>
    if (bI r2) = 0 then
      ckc (pCls h2 a0) 2 <|
      bnx (fX2_passes D cap a0 (dK D 15) h2) fun r3 h3 =>
      if (bI r3) = 0 then
        ckc (pCls h3 a0) 2 <|
        bnx (fX2_sum D cap rS rB a0 h3) fun p1 h4 =>
        ckc (pCls h4 a0) 2 <|
        bnd (fX2_here a0 h4) fun r4 h5 =>
        jn (fun (h6 : PH) =>
          vI (pF h6 a0 2 2) fun v1 =>
          bnv (pPut h6 a0 2 2 (.int (v1 + 1))) fun h7 =>
          bnd (pNew cap h7 (.inr (19, [.null, .null, .int 0])) 3) fun p2 h8 =>
          ckc (pCls h8 a0) 2 <|
          bnx (fX2_sum D cap rS rB a0 h8) fun p3 h9 =>
          bnv (fX19_init p2 p1 r4 p3 h9) fun h10 =>
          some (.inl p2, h10)) fun j148 =>
        if r4 = (60 : Int32) then
          j148 h5
        else
          if r4 = (62 : Int32) then
            j148 h5
          else
            if r4 = (61 : Int32) then
              j148 h5
            else
              vI (pF h5 a0 2 2) fun v2 =>
              ckc (pCls h5 a0) 2 <|
              bnd (fX2_wrong a0 1 v2 h5) fun p4 h11 =>
              some (.inr p4, h11)
      else
        bnd (pNew cap h3 (.inr (12, [])) 0) fun p5 h12 =>
        bnv (fX12_init p5 h12) fun h13 =>
        some (.inl p5, h13)
    else
      vI (pF h2 a0 2 3) fun v3 =>
      ckc (pCls h2 a0) 2 <|
      bnx (fX2_opens a0 v3 h2) fun u1 h14 =>
      bnd (pNew cap h14 (.inr (11, [.null])) 1) fun p6 h15 =>
      ckc (pCls h15 a0) 2 <|
      bnx (rF a0 h15) fun p7 h16 =>
      bnv (fX11_init p6 p7 h16) fun h17 =>
      vI (pF h17 a0 2 4) fun v4 =>
      bnv (pPut h17 a0 2 4 (.int (v4 - 1))) fun h18 =>
      some (.inl p6, h18)
set_option maxHeartbeats 1000000 in
theorem kX2_fact {l : Launch} {D : PD} {A : Nat → Prop} {cap : Nat × Nat} {d : Nat} (hd : 11 ≤ d) {rS : Nat → PH → Option ((Nat ⊕ Nat) × PH)} {dS : Nat} (okS : OkR l D A cap yX2_sum cX2_sum 3 (Option.some (Jvm.ClassFile.FieldType.object "PupilsPupil$Value")) dS rS) (hdS : dS + 5 ≤ d) {rB : Nat → PH → Option ((Nat ⊕ Nat) × PH)} {dB : Nat} (okB : OkR l D A cap yX2_atom cX2_atom 3 (Option.some (Jvm.ClassFile.FieldType.object "PupilsPupil$Value")) dB rB) (hdB : dB + 5 ≤ d) {rU : Nat → PH → Option ((Nat ⊕ Nat) × PH)} {dU : Nat} (okU : OkR l D A cap yX2_test cX2_test 2 (Option.some (Jvm.ClassFile.FieldType.object "PupilsPupil$Test")) dU rU) (hdU : dU + 5 ≤ d) {rF : Nat → PH → Option ((Nat ⊕ Nat) × PH)} {dF : Nat} (okF : OkR l D A cap yX2_fact cX2_fact 3 (Option.some (Jvm.ClassFile.FieldType.object "PupilsPupil$Test")) dF rF) (hdF : dF + 5 ≤ d) {a0 : Nat} {h h' : PH} {r : Nat} (hf : fX2_fact D cap rS rB rU rF a0 h = some (.inl r, h')) : CMet l D A cap yX2_fact cX2_fact 3 (Option.some (Jvm.ClassFile.FieldType.object "PupilsPupil$Test")) d [.ref a0] h h' (some (.ref r)) := by
  unfold fX2_fact at hf
  refine p_head (own := RX2) (ini := false) (pn_X2 rfl) rfl (fun q => by cases q) (Nat.le_of_ble_eq_true rfl) (fun m Z cx sx H0 ls X hM hl => ?_)
  have G := X.g
  have hl : lv_has ls 3 [(0, .ref a0)] := hl
  refine g_aload_n G dX2_fact_0 rfl (lv_at hl 0 rfl) ?_
  obtain ⟨b1, hf⟩ := ckc_open hf
  obtain ⟨r1, h1, g1, hf⟩ := bnd_open hf
  refine p_callV_r (ci := 2) (As := []) (rest := []) X hM hl rfl b1 pcy_X2_here q543 q545 qs4 (kX2_here g1) rfl (Nat.lt_of_lt_of_le (by decide) hd) (Nat.le_of_ble_eq_true rfl) rfl dX2_fact_1 (fun H locs hM => ?_)
  refine g_bipush (v := 91) G dX2_fact_4 rfl ?_
  refine g_icmp_ne (tgt := 50) G dX2_fact_6 rfl (fun c1 => ?_) (fun c1 => ?_)
  · have hf := it_neg c1 hf
    refine g_aload_n G dX2_fact_50 rfl (lv_at hl 0 rfl) ?_
    refine p_ldcsW X (i := 14) rfl dX2_fact_51 ?_
    obtain ⟨b2, hf⟩ := ckc_open hf
    obtain ⟨r2, h2, g2, hf⟩ := bnx_ret hf
    refine p_callV_r (ci := 2) (As := [.ref (dK D 14)]) (rest := []) X hM hl rfl b2 pcy_X2_passes q978 q980 qs27 (kX2_passes g2) rfl (Nat.lt_of_lt_of_le (by decide) hd) (Nat.le_of_ble_eq_true rfl) rfl dX2_fact_54 (fun H locs hM => ?_)
    refine g_if_eq (tgt := 92) G dX2_fact_57 rfl (fun c2 => ?_) (fun c2 => ?_)
    · have hf := it_pos c2 hf
      refine g_aload_n G dX2_fact_92 rfl (lv_at hl 0 rfl) ?_
      refine p_ldcsW X (i := 15) rfl dX2_fact_93 ?_
      obtain ⟨b3, hf⟩ := ckc_open hf
      obtain ⟨r3, h3, g4, hf⟩ := bnx_ret hf
      refine p_callV_r (ci := 2) (As := [.ref (dK D 15)]) (rest := []) X hM hl rfl b3 pcy_X2_passes q978 q980 qs27 (kX2_passes g4) rfl (Nat.lt_of_lt_of_le (by decide) hd) (Nat.le_of_ble_eq_true rfl) rfl dX2_fact_96 (fun H locs hM => ?_)
      refine g_if_eq (tgt := 110) G dX2_fact_99 rfl (fun c3 => ?_) (fun c3 => ?_)
      · have hf := it_pos c3 hf
        refine g_aload_n G dX2_fact_110 rfl (lv_at hl 0 rfl) ?_
        obtain ⟨b4, hf⟩ := ckc_open hf
        obtain ⟨p1, h4, g6, hf⟩ := bnx_ret hf
        refine p_callV_r (ci := 2) (As := []) (rest := []) X hM hl rfl b4 pcy_X2_sum q1000 q1002 qs28 (kX2_sum (d := d - 1) (by omega) okS (by omega) okB (by omega) g6) rfl (by omega) (Nat.le_of_ble_eq_true rfl) rfl dX2_fact_111 (fun H locs hM => ?_)
        refine g_astore_n (i := 1) (lv' := [(1, .ref p1), (0, .ref a0)]) G dX2_fact_114 rfl hl (Nat.le_of_ble_eq_true rfl) rfl (fun ls hl => ?_)
        refine g_aload_n G dX2_fact_115 rfl (lv_at hl 1 rfl) ?_
        obtain ⟨b5, hf⟩ := ckc_open hf
        obtain ⟨r4, h5, g8, hf⟩ := bnd_open hf
        refine p_callV_r (ci := 2) (As := []) (rest := []) X hM hl rfl b5 pcy_X2_here q543 q545 qs4 (kX2_here g8) rfl (Nat.lt_of_lt_of_le (by decide) hd) (Nat.le_of_ble_eq_true rfl) rfl dX2_fact_116 (fun H locs hM => ?_)
        refine g_istore_n (i := 2) (lv' := [(2, .int r4), (1, .ref p1), (0, .ref a0)]) G dX2_fact_119 rfl hl (Nat.le_of_ble_eq_true rfl) rfl (fun ls hl => ?_)
        refine g_iload_n G dX2_fact_120 rfl (lv_at hl 0 rfl) ?_
        refine g_bipush (v := 60) G dX2_fact_121 rfl ?_
        obtain ⟨j148, ej148, hf⟩ := jn_open hf
        have J148 : ∀ (h6 : PH) (H : Heap) (locs : List Loc), j148 h6 = some (.inl r, h') → PI D A cap H0 h6 H locs → ∀ ls : Array Slot, lv_has ls 3 [(0, .ref a0), (1, .ref p1), (2, .int r4)] → Z H locs (cx H) (sx H) (F0 m 148 ls []) := by
          intro h6 H locs hf hM ls hl
          rw [ej148] at hf
          refine g_aload_n G dX2_fact_148 rfl (lv_at hl 0 rfl) ?_
          refine g_dup G dX2_fact_149 rfl ?_
          obtain ⟨v1, g9, hf⟩ := vI_open hf
          refine p_get (k := 2) X hM pc_2 (by decide) q351 rfl g9 dX2_fact_150 ?_
          refine g_iconst (v := 1) G dX2_fact_153 rfl ?_
          refine g_iadd G dX2_fact_154 ?_
          obtain ⟨h7, g10, hf⟩ := bnv_open hf
          refine p_put (k := 2) X hM pc_2 (by decide) q351 rfl rfl rfl rfl g10 dX2_fact_155 (fun H locs hM => ?_)
          obtain ⟨p2, h8, g11, hf⟩ := bnd_open hf
          refine p_new X hM pc_19 q1184 q1185 q181 (by decide +kernel) g11 dX2_fact_158 (fun H locs hM => ?_)
          refine g_dup G dX2_fact_161 rfl ?_
          refine g_aload_n G dX2_fact_162 rfl (lv_at hl 1 rfl) ?_
          refine g_iload_n G dX2_fact_163 rfl (lv_at hl 2 rfl) ?_
          refine g_aload_n G dX2_fact_164 rfl (lv_at hl 0 rfl) ?_
          obtain ⟨b6, hf⟩ := ckc_open hf
          obtain ⟨p3, h9, g12, hf⟩ := bnx_ret hf
          refine p_callV_r (ci := 2) (As := []) (rest := [.int r4, .ref p1, .ref p2, .ref p2]) X hM hl rfl b6 pcy_X2_sum q1000 q1002 qs28 (kX2_sum (d := d - 1) (by omega) okS (by omega) okB (by omega) g12) rfl (by omega) (Nat.le_of_ble_eq_true rfl) rfl dX2_fact_165 (fun H locs hM => ?_)
          obtain ⟨h10, g14, hf⟩ := bnv_open hf
          refine p_callI_v (As := [.ref p1, .int r4, .ref p3]) (rest := [.ref p2]) X hM hl pcy_X19_init rfl q1186 q1187 (kX19_init g14) rfl (Nat.lt_of_lt_of_le (by decide) hd) (Nat.le_of_ble_eq_true rfl) rfl dX2_fact_168 (fun H locs hM => ?_)
          cases hf
          exact p_aret X (Or.inl ⟨_, rfl⟩) hM rfl dX2_fact_171
        refine g_icmp_eq (tgt := 148) G dX2_fact_123 rfl (fun c4 => ?_) (fun c4 => ?_)
        · have hf := it_pos c4 hf
          exact J148 _ _ _ hf hM ls (lv_sub hl [2, 1, 0] rfl)
        · have hf := it_neg c4 hf
          refine g_iload_n G dX2_fact_126 rfl (lv_at hl 0 rfl) ?_
          refine g_bipush (v := 62) G dX2_fact_127 rfl ?_
          refine g_icmp_eq (tgt := 148) G dX2_fact_129 rfl (fun c5 => ?_) (fun c5 => ?_)
          · have hf := it_pos c5 hf
            exact J148 _ _ _ hf hM ls (lv_sub hl [2, 1, 0] rfl)
          · have hf := it_neg c5 hf
            refine g_iload_n G dX2_fact_132 rfl (lv_at hl 0 rfl) ?_
            refine g_bipush (v := 61) G dX2_fact_133 rfl ?_
            refine g_icmp_eq (tgt := 148) G dX2_fact_135 rfl (fun c6 => ?_) (fun c6 => ?_)
            · have hf := it_pos c6 hf
              exact J148 _ _ _ hf hM ls (lv_sub hl [2, 1, 0] rfl)
            · have hf := it_neg c6 hf
              refine g_aload_n G dX2_fact_138 rfl (lv_at hl 2 rfl) ?_
              refine g_iconst (v := 1) G dX2_fact_139 rfl ?_
              refine g_aload_n G dX2_fact_140 rfl (lv_at hl 2 rfl) ?_
              obtain ⟨v2, g15, hf⟩ := vI_open hf
              refine p_get (k := 2) X hM pc_2 (by decide) q351 rfl g15 dX2_fact_141 ?_
              obtain ⟨b7, hf⟩ := ckc_open hf
              obtain ⟨p4, h11, g16, hf⟩ := bnd_open hf
              refine p_callV_r (ci := 2) (As := [.int 1, .int v2]) (rest := []) X hM hl rfl b7 pcy_X2_wrong q555 q557 qs7 (kX2_wrong g16) rfl (Nat.lt_of_lt_of_le (by decide) hd) (Nat.le_of_ble_eq_true rfl) rfl dX2_fact_144 (fun H locs hM => ?_)
              exact absurd hf (by intro z; cases z)
      · have hf := it_neg c3 hf
        obtain ⟨p5, h12, g17, hf⟩ := bnd_open hf
        refine p_new X hM pc_12 q993 q994 q172 (by decide +kernel) g17 dX2_fact_102 (fun H locs hM => ?_)
        refine g_dup G dX2_fact_105 rfl ?_
        obtain ⟨h13, g18, hf⟩ := bnv_open hf
        refine p_callIN_v (As := []) (rest := [.ref p5]) X hM hl pcy_X12_init rfl q995 q996 (kX12_init g18) rfl (Nat.lt_of_lt_of_le (by decide) hd) (Nat.le_of_ble_eq_true rfl) rfl dX2_fact_106 (fun H locs hM => ?_)
        cases hf
        exact p_aret X (Or.inl ⟨_, rfl⟩) hM rfl dX2_fact_109
    · have hf := it_neg c2 hf
      refine g_aload_n G dX2_fact_60 rfl (lv_at hl 0 rfl) ?_
      refine g_aload_n G dX2_fact_61 rfl (lv_at hl 0 rfl) ?_
      obtain ⟨v3, g19, hf⟩ := vI_open hf
      refine p_get (k := 3) X hM pc_2 (by decide) q352 rfl g19 dX2_fact_62 ?_
      obtain ⟨b8, hf⟩ := ckc_open hf
      obtain ⟨u1, h14, g20, hf⟩ := bnx_ret hf
      refine p_callV_v (ci := 2) (As := [.int v3]) (rest := []) X hM hl rfl b8 pcy_X2_opens q969 q971 qs25 (kX2_opens g20) rfl (Nat.lt_of_lt_of_le (by decide) hd) (Nat.le_of_ble_eq_true rfl) rfl dX2_fact_65 (fun H locs hM => ?_)
      obtain ⟨p6, h15, g22, hf⟩ := bnd_open hf
      refine p_new X hM pc_11 q982 q983 q171 (by decide +kernel) g22 dX2_fact_68 (fun H locs hM => ?_)
      refine g_dup G dX2_fact_71 rfl ?_
      refine g_aload_n G dX2_fact_72 rfl (lv_at hl 0 rfl) ?_
      obtain ⟨b9, hf⟩ := ckc_open hf
      obtain ⟨p7, h16, g23, hf⟩ := bnx_ret hf
      refine p_callV_r (ci := 2) (As := []) (rest := [.ref p6, .ref p6]) X hM hl rfl b9 pcy_X2_fact q965 q967 qs24 (okF.1 _ _ _ _ g23) rfl (by omega) (Nat.le_of_ble_eq_true rfl) rfl dX2_fact_73 (fun H locs hM => ?_)
      obtain ⟨h17, g25, hf⟩ := bnv_open hf
      refine p_callI_v (As := [.ref p7]) (rest := [.ref p6]) X hM hl pcy_X11_init rfl q984 q985 (kX11_init g25) rfl (Nat.lt_of_lt_of_le (by decide) hd) (Nat.le_of_ble_eq_true rfl) rfl dX2_fact_76 (fun H locs hM => ?_)
      refine g_astore_n (i := 1) (lv' := [(1, .ref p6), (0, .ref a0)]) G dX2_fact_79 rfl hl (Nat.le_of_ble_eq_true rfl) rfl (fun ls hl => ?_)
      refine g_aload_n G dX2_fact_80 rfl (lv_at hl 1 rfl) ?_
      refine g_dup G dX2_fact_81 rfl ?_
      obtain ⟨v4, g26, hf⟩ := vI_open hf
      refine p_get (k := 4) X hM pc_2 (by decide) q353 rfl g26 dX2_fact_82 ?_
      refine g_iconst (v := 1) G dX2_fact_85 rfl ?_
      refine g_isub G dX2_fact_86 ?_
      obtain ⟨h18, g27, hf⟩ := bnv_open hf
      refine p_put (k := 4) X hM pc_2 (by decide) q353 rfl rfl rfl rfl g27 dX2_fact_87 (fun H locs hM => ?_)
      refine g_aload_n G dX2_fact_90 rfl (lv_at hl 0 rfl) ?_
      cases hf
      exact p_aret X (Or.inl ⟨_, rfl⟩) hM rfl dX2_fact_91
  · have hf := it_pos c1 hf
    refine g_aload_n G dX2_fact_9 rfl (lv_at hl 0 rfl) ?_
    refine g_aload_n G dX2_fact_10 rfl (lv_at hl 0 rfl) ?_
    obtain ⟨v5, g28, hf⟩ := vI_open hf
    refine p_get (k := 2) X hM pc_2 (by decide) q351 rfl g28 dX2_fact_11 ?_
    obtain ⟨b10, hf⟩ := ckc_open hf
    obtain ⟨u2, h19, g29, hf⟩ := bnx_ret hf
    refine p_callV_v (ci := 2) (As := [.int v5]) (rest := []) X hM hl rfl b10 pcy_X2_opens q969 q971 qs25 (kX2_opens g29) rfl (Nat.lt_of_lt_of_le (by decide) hd) (Nat.le_of_ble_eq_true rfl) rfl dX2_fact_14 (fun H locs hM => ?_)
    refine g_aload_n G dX2_fact_17 rfl (lv_at hl 0 rfl) ?_
    refine g_dup G dX2_fact_18 rfl ?_
    obtain ⟨v6, g31, hf⟩ := vI_open hf
    refine p_get (k := 2) X hM pc_2 (by decide) q351 rfl g31 dX2_fact_19 ?_
    refine g_iconst (v := 1) G dX2_fact_22 rfl ?_
    refine g_iadd G dX2_fact_23 ?_
    obtain ⟨h20, g32, hf⟩ := bnv_open hf
    refine p_put (k := 2) X hM pc_2 (by decide) q351 rfl rfl rfl rfl g32 dX2_fact_24 (fun H locs hM => ?_)
    refine g_aload_n G dX2_fact_27 rfl (lv_at hl 0 rfl) ?_
    obtain ⟨b11, hf⟩ := ckc_open hf
    obtain ⟨p8, h21, g33, hf⟩ := bnx_ret hf
    refine p_callV_r (ci := 2) (As := []) (rest := []) X hM hl rfl b11 pcy_X2_test q938 q940 qs22 (okU.1 _ _ _ _ g33) rfl (by omega) (Nat.le_of_ble_eq_true rfl) rfl dX2_fact_28 (fun H locs hM => ?_)
    refine g_astore_n (i := 1) (lv' := [(1, .ref p8), (0, .ref a0)]) G dX2_fact_31 rfl hl (Nat.le_of_ble_eq_true rfl) rfl (fun ls hl => ?_)
    refine g_aload_n G dX2_fact_32 rfl (lv_at hl 1 rfl) ?_
    refine g_bipush (v := 93) G dX2_fact_33 rfl ?_
    obtain ⟨b12, hf⟩ := ckc_open hf
    obtain ⟨u3, h22, g35, hf⟩ := bnx_ret hf
    refine p_callV_v (ci := 2) (As := [.int 93]) (rest := []) X hM hl rfl b12 pcy_X2_must q973 q975 qs26 (kX2_must g35) rfl (Nat.lt_of_lt_of_le (by decide) hd) (Nat.le_of_ble_eq_true rfl) rfl dX2_fact_35 (fun H locs hM => ?_)
    refine g_aload_n G dX2_fact_38 rfl (lv_at hl 1 rfl) ?_
    refine g_dup G dX2_fact_39 rfl ?_
    obtain ⟨v7, g37, hf⟩ := vI_open hf
    refine p_get (k := 4) X hM pc_2 (by decide) q353 rfl g37 dX2_fact_40 ?_
    refine g_iconst (v := 1) G dX2_fact_43 rfl ?_
    refine g_isub G dX2_fact_44 ?_
    obtain ⟨h23, g38, hf⟩ := bnv_open hf
    refine p_put (k := 4) X hM pc_2 (by decide) q353 rfl rfl rfl rfl g38 dX2_fact_45 (fun H locs hM => ?_)
    refine g_aload_n G dX2_fact_48 rfl (lv_at hl 0 rfl) ?_
    cases hf
    exact p_aret X (Or.inl ⟨_, rfl⟩) hM rfl dX2_fact_49
set_option maxHeartbeats 1000000 in
theorem xX2_fact {l : Launch} {D : PD} {A : Nat → Prop} {cap : Nat × Nat} {d : Nat} (hd : 11 ≤ d) {rS : Nat → PH → Option ((Nat ⊕ Nat) × PH)} {dS : Nat} (okS : OkR l D A cap yX2_sum cX2_sum 3 (Option.some (Jvm.ClassFile.FieldType.object "PupilsPupil$Value")) dS rS) (hdS : dS + 5 ≤ d) {rB : Nat → PH → Option ((Nat ⊕ Nat) × PH)} {dB : Nat} (okB : OkR l D A cap yX2_atom cX2_atom 3 (Option.some (Jvm.ClassFile.FieldType.object "PupilsPupil$Value")) dB rB) (hdB : dB + 5 ≤ d) {rU : Nat → PH → Option ((Nat ⊕ Nat) × PH)} {dU : Nat} (okU : OkR l D A cap yX2_test cX2_test 2 (Option.some (Jvm.ClassFile.FieldType.object "PupilsPupil$Test")) dU rU) (hdU : dU + 5 ≤ d) {rF : Nat → PH → Option ((Nat ⊕ Nat) × PH)} {dF : Nat} (okF : OkR l D A cap yX2_fact cX2_fact 3 (Option.some (Jvm.ClassFile.FieldType.object "PupilsPupil$Test")) dF rF) (hdF : dF + 5 ≤ d) {a0 : Nat} {h h' : PH} {q : Nat} (hf : fX2_fact D cap rS rB rU rF a0 h = some (.inr q, h')) : XMet l D A cap yX2_fact cX2_fact 3 (Option.some (Jvm.ClassFile.FieldType.object "PupilsPupil$Test")) d [.ref a0] h h' (q) := by
  unfold fX2_fact at hf
  refine p_headT (own := RX2) (ini := false) (pn_X2 rfl) rfl (fun q => by cases q) (Nat.le_of_ble_eq_true rfl) (fun m Z cx sx H0 ls X XT hM hl => ?_)
  have G := X.g
  have hl : lv_has ls 3 [(0, .ref a0)] := hl
  refine g_aload_n G dX2_fact_0 rfl (lv_at hl 0 rfl) ?_
  obtain ⟨b1, hf⟩ := ckc_open hf
  obtain ⟨r1, h1, g1, hf⟩ := bnd_open hf
  refine p_callV_r (ci := 2) (As := []) (rest := []) X hM hl rfl b1 pcy_X2_here q543 q545 qs4 (kX2_here g1) rfl (Nat.lt_of_lt_of_le (by decide) hd) (Nat.le_of_ble_eq_true rfl) rfl dX2_fact_1 (fun H locs hM => ?_)
  refine g_bipush (v := 91) G dX2_fact_4 rfl ?_
  refine g_icmp_ne (tgt := 50) G dX2_fact_6 rfl (fun c1 => ?_) (fun c1 => ?_)
  · have hf := it_neg c1 hf
    refine g_aload_n G dX2_fact_50 rfl (lv_at hl 0 rfl) ?_
    refine p_ldcsW X (i := 14) rfl dX2_fact_51 ?_
    obtain ⟨b2, hf⟩ := ckc_open hf
    refine bnx_split hf (fun g3 => ?_) (fun r2 h2 g2 hf => ?_)
    · exact p_callT (ci := 2) (As := [.ref (dK D 14)]) (rest := []) XT hM hl rfl b2 pcy_X2_passes q978 q980 qs27 (xX2_passes g3) rfl (Nat.lt_of_lt_of_le (by decide) hd) (Nat.le_of_ble_eq_true rfl) rfl dX2_fact_54
    refine p_callV_r (ci := 2) (As := [.ref (dK D 14)]) (rest := []) X hM hl rfl b2 pcy_X2_passes q978 q980 qs27 (kX2_passes g2) rfl (Nat.lt_of_lt_of_le (by decide) hd) (Nat.le_of_ble_eq_true rfl) rfl dX2_fact_54 (fun H locs hM => ?_)
    refine g_if_eq (tgt := 92) G dX2_fact_57 rfl (fun c2 => ?_) (fun c2 => ?_)
    · have hf := it_pos c2 hf
      refine g_aload_n G dX2_fact_92 rfl (lv_at hl 0 rfl) ?_
      refine p_ldcsW X (i := 15) rfl dX2_fact_93 ?_
      obtain ⟨b3, hf⟩ := ckc_open hf
      refine bnx_split hf (fun g5 => ?_) (fun r3 h3 g4 hf => ?_)
      · exact p_callT (ci := 2) (As := [.ref (dK D 15)]) (rest := []) XT hM hl rfl b3 pcy_X2_passes q978 q980 qs27 (xX2_passes g5) rfl (Nat.lt_of_lt_of_le (by decide) hd) (Nat.le_of_ble_eq_true rfl) rfl dX2_fact_96
      refine p_callV_r (ci := 2) (As := [.ref (dK D 15)]) (rest := []) X hM hl rfl b3 pcy_X2_passes q978 q980 qs27 (kX2_passes g4) rfl (Nat.lt_of_lt_of_le (by decide) hd) (Nat.le_of_ble_eq_true rfl) rfl dX2_fact_96 (fun H locs hM => ?_)
      refine g_if_eq (tgt := 110) G dX2_fact_99 rfl (fun c3 => ?_) (fun c3 => ?_)
      · have hf := it_pos c3 hf
        refine g_aload_n G dX2_fact_110 rfl (lv_at hl 0 rfl) ?_
        obtain ⟨b4, hf⟩ := ckc_open hf
        refine bnx_split hf (fun g7 => ?_) (fun p1 h4 g6 hf => ?_)
        · exact p_callT (ci := 2) (As := []) (rest := []) XT hM hl rfl b4 pcy_X2_sum q1000 q1002 qs28 (xX2_sum (d := d - 1) (by omega) okS (by omega) okB (by omega) g7) rfl (by omega) (Nat.le_of_ble_eq_true rfl) rfl dX2_fact_111
        refine p_callV_r (ci := 2) (As := []) (rest := []) X hM hl rfl b4 pcy_X2_sum q1000 q1002 qs28 (kX2_sum (d := d - 1) (by omega) okS (by omega) okB (by omega) g6) rfl (by omega) (Nat.le_of_ble_eq_true rfl) rfl dX2_fact_111 (fun H locs hM => ?_)
        refine g_astore_n (i := 1) (lv' := [(1, .ref p1), (0, .ref a0)]) G dX2_fact_114 rfl hl (Nat.le_of_ble_eq_true rfl) rfl (fun ls hl => ?_)
        refine g_aload_n G dX2_fact_115 rfl (lv_at hl 1 rfl) ?_
        obtain ⟨b5, hf⟩ := ckc_open hf
        obtain ⟨r4, h5, g8, hf⟩ := bnd_open hf
        refine p_callV_r (ci := 2) (As := []) (rest := []) X hM hl rfl b5 pcy_X2_here q543 q545 qs4 (kX2_here g8) rfl (Nat.lt_of_lt_of_le (by decide) hd) (Nat.le_of_ble_eq_true rfl) rfl dX2_fact_116 (fun H locs hM => ?_)
        refine g_istore_n (i := 2) (lv' := [(2, .int r4), (1, .ref p1), (0, .ref a0)]) G dX2_fact_119 rfl hl (Nat.le_of_ble_eq_true rfl) rfl (fun ls hl => ?_)
        refine g_iload_n G dX2_fact_120 rfl (lv_at hl 0 rfl) ?_
        refine g_bipush (v := 60) G dX2_fact_121 rfl ?_
        obtain ⟨j148, ej148, hf⟩ := jn_open hf
        have J148 : ∀ (h6 : PH) (H : Heap) (locs : List Loc), j148 h6 = some (.inr q, h') → PI D A cap H0 h6 H locs → ∀ ls : Array Slot, lv_has ls 3 [(0, .ref a0), (1, .ref p1), (2, .int r4)] → Z H locs (cx H) (sx H) (F0 m 148 ls []) := by
          intro h6 H locs hf hM ls hl
          rw [ej148] at hf
          refine g_aload_n G dX2_fact_148 rfl (lv_at hl 0 rfl) ?_
          refine g_dup G dX2_fact_149 rfl ?_
          obtain ⟨v1, g9, hf⟩ := vI_open hf
          refine p_get (k := 2) X hM pc_2 (by decide) q351 rfl g9 dX2_fact_150 ?_
          refine g_iconst (v := 1) G dX2_fact_153 rfl ?_
          refine g_iadd G dX2_fact_154 ?_
          obtain ⟨h7, g10, hf⟩ := bnv_open hf
          refine p_put (k := 2) X hM pc_2 (by decide) q351 rfl rfl rfl rfl g10 dX2_fact_155 (fun H locs hM => ?_)
          obtain ⟨p2, h8, g11, hf⟩ := bnd_open hf
          refine p_new X hM pc_19 q1184 q1185 q181 (by decide +kernel) g11 dX2_fact_158 (fun H locs hM => ?_)
          refine g_dup G dX2_fact_161 rfl ?_
          refine g_aload_n G dX2_fact_162 rfl (lv_at hl 1 rfl) ?_
          refine g_iload_n G dX2_fact_163 rfl (lv_at hl 2 rfl) ?_
          refine g_aload_n G dX2_fact_164 rfl (lv_at hl 0 rfl) ?_
          obtain ⟨b6, hf⟩ := ckc_open hf
          refine bnx_split hf (fun g13 => ?_) (fun p3 h9 g12 hf => ?_)
          · exact p_callT (ci := 2) (As := []) (rest := [.int r4, .ref p1, .ref p2, .ref p2]) XT hM hl rfl b6 pcy_X2_sum q1000 q1002 qs28 (xX2_sum (d := d - 1) (by omega) okS (by omega) okB (by omega) g13) rfl (by omega) (Nat.le_of_ble_eq_true rfl) rfl dX2_fact_165
          refine p_callV_r (ci := 2) (As := []) (rest := [.int r4, .ref p1, .ref p2, .ref p2]) X hM hl rfl b6 pcy_X2_sum q1000 q1002 qs28 (kX2_sum (d := d - 1) (by omega) okS (by omega) okB (by omega) g12) rfl (by omega) (Nat.le_of_ble_eq_true rfl) rfl dX2_fact_165 (fun H locs hM => ?_)
          obtain ⟨h10, g14, hf⟩ := bnv_open hf
          refine p_callI_v (As := [.ref p1, .int r4, .ref p3]) (rest := [.ref p2]) X hM hl pcy_X19_init rfl q1186 q1187 (kX19_init g14) rfl (Nat.lt_of_lt_of_le (by decide) hd) (Nat.le_of_ble_eq_true rfl) rfl dX2_fact_168 (fun H locs hM => ?_)
          exact absurd hf (by intro z; cases z)
        refine g_icmp_eq (tgt := 148) G dX2_fact_123 rfl (fun c4 => ?_) (fun c4 => ?_)
        · have hf := it_pos c4 hf
          exact J148 _ _ _ hf hM ls (lv_sub hl [2, 1, 0] rfl)
        · have hf := it_neg c4 hf
          refine g_iload_n G dX2_fact_126 rfl (lv_at hl 0 rfl) ?_
          refine g_bipush (v := 62) G dX2_fact_127 rfl ?_
          refine g_icmp_eq (tgt := 148) G dX2_fact_129 rfl (fun c5 => ?_) (fun c5 => ?_)
          · have hf := it_pos c5 hf
            exact J148 _ _ _ hf hM ls (lv_sub hl [2, 1, 0] rfl)
          · have hf := it_neg c5 hf
            refine g_iload_n G dX2_fact_132 rfl (lv_at hl 0 rfl) ?_
            refine g_bipush (v := 61) G dX2_fact_133 rfl ?_
            refine g_icmp_eq (tgt := 148) G dX2_fact_135 rfl (fun c6 => ?_) (fun c6 => ?_)
            · have hf := it_pos c6 hf
              exact J148 _ _ _ hf hM ls (lv_sub hl [2, 1, 0] rfl)
            · have hf := it_neg c6 hf
              refine g_aload_n G dX2_fact_138 rfl (lv_at hl 2 rfl) ?_
              refine g_iconst (v := 1) G dX2_fact_139 rfl ?_
              refine g_aload_n G dX2_fact_140 rfl (lv_at hl 2 rfl) ?_
              obtain ⟨v2, g15, hf⟩ := vI_open hf
              refine p_get (k := 2) X hM pc_2 (by decide) q351 rfl g15 dX2_fact_141 ?_
              obtain ⟨b7, hf⟩ := ckc_open hf
              obtain ⟨p4, h11, g16, hf⟩ := bnd_open hf
              refine p_callV_r (ci := 2) (As := [.int 1, .int v2]) (rest := []) X hM hl rfl b7 pcy_X2_wrong q555 q557 qs7 (kX2_wrong g16) rfl (Nat.lt_of_lt_of_le (by decide) hd) (Nat.le_of_ble_eq_true rfl) rfl dX2_fact_144 (fun H locs hM => ?_)
              cases hf
              exact p_athrow XT hM dX2_fact_147
      · have hf := it_neg c3 hf
        obtain ⟨p5, h12, g17, hf⟩ := bnd_open hf
        refine p_new X hM pc_12 q993 q994 q172 (by decide +kernel) g17 dX2_fact_102 (fun H locs hM => ?_)
        refine g_dup G dX2_fact_105 rfl ?_
        obtain ⟨h13, g18, hf⟩ := bnv_open hf
        refine p_callIN_v (As := []) (rest := [.ref p5]) X hM hl pcy_X12_init rfl q995 q996 (kX12_init g18) rfl (Nat.lt_of_lt_of_le (by decide) hd) (Nat.le_of_ble_eq_true rfl) rfl dX2_fact_106 (fun H locs hM => ?_)
        exact absurd hf (by intro z; cases z)
    · have hf := it_neg c2 hf
      refine g_aload_n G dX2_fact_60 rfl (lv_at hl 0 rfl) ?_
      refine g_aload_n G dX2_fact_61 rfl (lv_at hl 0 rfl) ?_
      obtain ⟨v3, g19, hf⟩ := vI_open hf
      refine p_get (k := 3) X hM pc_2 (by decide) q352 rfl g19 dX2_fact_62 ?_
      obtain ⟨b8, hf⟩ := ckc_open hf
      refine bnx_split hf (fun g21 => ?_) (fun u1 h14 g20 hf => ?_)
      · exact p_callT (ci := 2) (As := [.int v3]) (rest := []) XT hM hl rfl b8 pcy_X2_opens q969 q971 qs25 (xX2_opens g21) rfl (Nat.lt_of_lt_of_le (by decide) hd) (Nat.le_of_ble_eq_true rfl) rfl dX2_fact_65
      refine p_callV_v (ci := 2) (As := [.int v3]) (rest := []) X hM hl rfl b8 pcy_X2_opens q969 q971 qs25 (kX2_opens g20) rfl (Nat.lt_of_lt_of_le (by decide) hd) (Nat.le_of_ble_eq_true rfl) rfl dX2_fact_65 (fun H locs hM => ?_)
      obtain ⟨p6, h15, g22, hf⟩ := bnd_open hf
      refine p_new X hM pc_11 q982 q983 q171 (by decide +kernel) g22 dX2_fact_68 (fun H locs hM => ?_)
      refine g_dup G dX2_fact_71 rfl ?_
      refine g_aload_n G dX2_fact_72 rfl (lv_at hl 0 rfl) ?_
      obtain ⟨b9, hf⟩ := ckc_open hf
      refine bnx_split hf (fun g24 => ?_) (fun p7 h16 g23 hf => ?_)
      · exact p_callT (ci := 2) (As := []) (rest := [.ref p6, .ref p6]) XT hM hl rfl b9 pcy_X2_fact q965 q967 qs24 (okF.2 _ _ _ _ g24) rfl (by omega) (Nat.le_of_ble_eq_true rfl) rfl dX2_fact_73
      refine p_callV_r (ci := 2) (As := []) (rest := [.ref p6, .ref p6]) X hM hl rfl b9 pcy_X2_fact q965 q967 qs24 (okF.1 _ _ _ _ g23) rfl (by omega) (Nat.le_of_ble_eq_true rfl) rfl dX2_fact_73 (fun H locs hM => ?_)
      obtain ⟨h17, g25, hf⟩ := bnv_open hf
      refine p_callI_v (As := [.ref p7]) (rest := [.ref p6]) X hM hl pcy_X11_init rfl q984 q985 (kX11_init g25) rfl (Nat.lt_of_lt_of_le (by decide) hd) (Nat.le_of_ble_eq_true rfl) rfl dX2_fact_76 (fun H locs hM => ?_)
      refine g_astore_n (i := 1) (lv' := [(1, .ref p6), (0, .ref a0)]) G dX2_fact_79 rfl hl (Nat.le_of_ble_eq_true rfl) rfl (fun ls hl => ?_)
      refine g_aload_n G dX2_fact_80 rfl (lv_at hl 1 rfl) ?_
      refine g_dup G dX2_fact_81 rfl ?_
      obtain ⟨v4, g26, hf⟩ := vI_open hf
      refine p_get (k := 4) X hM pc_2 (by decide) q353 rfl g26 dX2_fact_82 ?_
      refine g_iconst (v := 1) G dX2_fact_85 rfl ?_
      refine g_isub G dX2_fact_86 ?_
      obtain ⟨h18, g27, hf⟩ := bnv_open hf
      refine p_put (k := 4) X hM pc_2 (by decide) q353 rfl rfl rfl rfl g27 dX2_fact_87 (fun H locs hM => ?_)
      refine g_aload_n G dX2_fact_90 rfl (lv_at hl 0 rfl) ?_
      exact absurd hf (by intro z; cases z)
  · have hf := it_pos c1 hf
    refine g_aload_n G dX2_fact_9 rfl (lv_at hl 0 rfl) ?_
    refine g_aload_n G dX2_fact_10 rfl (lv_at hl 0 rfl) ?_
    obtain ⟨v5, g28, hf⟩ := vI_open hf
    refine p_get (k := 2) X hM pc_2 (by decide) q351 rfl g28 dX2_fact_11 ?_
    obtain ⟨b10, hf⟩ := ckc_open hf
    refine bnx_split hf (fun g30 => ?_) (fun u2 h19 g29 hf => ?_)
    · exact p_callT (ci := 2) (As := [.int v5]) (rest := []) XT hM hl rfl b10 pcy_X2_opens q969 q971 qs25 (xX2_opens g30) rfl (Nat.lt_of_lt_of_le (by decide) hd) (Nat.le_of_ble_eq_true rfl) rfl dX2_fact_14
    refine p_callV_v (ci := 2) (As := [.int v5]) (rest := []) X hM hl rfl b10 pcy_X2_opens q969 q971 qs25 (kX2_opens g29) rfl (Nat.lt_of_lt_of_le (by decide) hd) (Nat.le_of_ble_eq_true rfl) rfl dX2_fact_14 (fun H locs hM => ?_)
    refine g_aload_n G dX2_fact_17 rfl (lv_at hl 0 rfl) ?_
    refine g_dup G dX2_fact_18 rfl ?_
    obtain ⟨v6, g31, hf⟩ := vI_open hf
    refine p_get (k := 2) X hM pc_2 (by decide) q351 rfl g31 dX2_fact_19 ?_
    refine g_iconst (v := 1) G dX2_fact_22 rfl ?_
    refine g_iadd G dX2_fact_23 ?_
    obtain ⟨h20, g32, hf⟩ := bnv_open hf
    refine p_put (k := 2) X hM pc_2 (by decide) q351 rfl rfl rfl rfl g32 dX2_fact_24 (fun H locs hM => ?_)
    refine g_aload_n G dX2_fact_27 rfl (lv_at hl 0 rfl) ?_
    obtain ⟨b11, hf⟩ := ckc_open hf
    refine bnx_split hf (fun g34 => ?_) (fun p8 h21 g33 hf => ?_)
    · exact p_callT (ci := 2) (As := []) (rest := []) XT hM hl rfl b11 pcy_X2_test q938 q940 qs22 (okU.2 _ _ _ _ g34) rfl (by omega) (Nat.le_of_ble_eq_true rfl) rfl dX2_fact_28
    refine p_callV_r (ci := 2) (As := []) (rest := []) X hM hl rfl b11 pcy_X2_test q938 q940 qs22 (okU.1 _ _ _ _ g33) rfl (by omega) (Nat.le_of_ble_eq_true rfl) rfl dX2_fact_28 (fun H locs hM => ?_)
    refine g_astore_n (i := 1) (lv' := [(1, .ref p8), (0, .ref a0)]) G dX2_fact_31 rfl hl (Nat.le_of_ble_eq_true rfl) rfl (fun ls hl => ?_)
    refine g_aload_n G dX2_fact_32 rfl (lv_at hl 1 rfl) ?_
    refine g_bipush (v := 93) G dX2_fact_33 rfl ?_
    obtain ⟨b12, hf⟩ := ckc_open hf
    refine bnx_split hf (fun g36 => ?_) (fun u3 h22 g35 hf => ?_)
    · exact p_callT (ci := 2) (As := [.int 93]) (rest := []) XT hM hl rfl b12 pcy_X2_must q973 q975 qs26 (xX2_must g36) rfl (Nat.lt_of_lt_of_le (by decide) hd) (Nat.le_of_ble_eq_true rfl) rfl dX2_fact_35
    refine p_callV_v (ci := 2) (As := [.int 93]) (rest := []) X hM hl rfl b12 pcy_X2_must q973 q975 qs26 (kX2_must g35) rfl (Nat.lt_of_lt_of_le (by decide) hd) (Nat.le_of_ble_eq_true rfl) rfl dX2_fact_35 (fun H locs hM => ?_)
    refine g_aload_n G dX2_fact_38 rfl (lv_at hl 1 rfl) ?_
    refine g_dup G dX2_fact_39 rfl ?_
    obtain ⟨v7, g37, hf⟩ := vI_open hf
    refine p_get (k := 4) X hM pc_2 (by decide) q353 rfl g37 dX2_fact_40 ?_
    refine g_iconst (v := 1) G dX2_fact_43 rfl ?_
    refine g_isub G dX2_fact_44 ?_
    obtain ⟨h23, g38, hf⟩ := bnv_open hf
    refine p_put (k := 4) X hM pc_2 (by decide) q353 rfl rfl rfl rfl g38 dX2_fact_45 (fun H locs hM => ?_)
    refine g_aload_n G dX2_fact_48 rfl (lv_at hl 0 rfl) ?_
    exact absurd hf (by intro z; cases z)
noncomputable def fX2_both_L23 (D : PD) (cap : Nat × Nat) (a0 : Nat) (rS : Nat → PH → Option ((Nat ⊕ Nat) × PH)) (rB : Nat → PH → Option ((Nat ⊕ Nat) × PH)) (rU : Nat → PH → Option ((Nat ⊕ Nat) × PH)) (rF : Nat → PH → Option ((Nat ⊕ Nat) × PH)) (p1 : Nat) (s23 : PH → Option ((Nat ⊕ Nat) × PH)) (h5 : PH) : Option ((Nat ⊕ Nat) × PH) :=
  ckc (pCls h5 a0) 2 <|
  bnx (fX2_passes D cap a0 (dK D 18) h5) fun r2 h6 =>
  if (bI r2) = 0 then
    some (.inl p1, h6)
  else
    vA (pF h6 p1 10 0) fun p4 =>
    ckc (pCls h6 a0) 2 <|
    bnx (fX2_fact D cap rS rB rU rF a0 h6) fun p5 h7 =>
    ckc (pCls h7 p4) 21 <|
    bnd (fJ2_add D cap p4 (some p5) h7) fun r3 h8 =>
    s23 h8
noncomputable def fX2_both (D : PD) (cap : Nat × Nat) (rS : Nat → PH → Option ((Nat ⊕ Nat) × PH)) (rB : Nat → PH → Option ((Nat ⊕ Nat) × PH)) (rU : Nat → PH → Option ((Nat ⊕ Nat) × PH)) (rF : Nat → PH → Option ((Nat ⊕ Nat) × PH)) (a0 : Nat) (h : PH) : Option ((Nat ⊕ Nat) × PH) :=
  bnd (pNew cap h (.inr (10, [.null, .int 0])) 2) fun p1 h1 =>
  bnv (fX10_init D cap p1 true h1) fun h2 =>
  vA (pF h2 p1 10 0) fun p2 =>
  ckc (pCls h2 a0) 2 <|
  bnx (fX2_fact D cap rS rB rU rF a0 h2) fun p3 h3 =>
  ckc (pCls h3 p2) 21 <|
  bnd (fJ2_add D cap p2 (some p3) h3) fun r1 h4 =>
  fx (fX2_both_L23 D cap a0 rS rB rU rF p1) (fun _ => none) FU  h4
set_option maxHeartbeats 1000000 in
theorem kX2_both {l : Launch} {D : PD} {A : Nat → Prop} {cap : Nat × Nat} {d : Nat} (hd : 12 ≤ d) {rS : Nat → PH → Option ((Nat ⊕ Nat) × PH)} {dS : Nat} (okS : OkR l D A cap yX2_sum cX2_sum 3 (Option.some (Jvm.ClassFile.FieldType.object "PupilsPupil$Value")) dS rS) (hdS : dS + 6 ≤ d) {rB : Nat → PH → Option ((Nat ⊕ Nat) × PH)} {dB : Nat} (okB : OkR l D A cap yX2_atom cX2_atom 3 (Option.some (Jvm.ClassFile.FieldType.object "PupilsPupil$Value")) dB rB) (hdB : dB + 6 ≤ d) {rU : Nat → PH → Option ((Nat ⊕ Nat) × PH)} {dU : Nat} (okU : OkR l D A cap yX2_test cX2_test 2 (Option.some (Jvm.ClassFile.FieldType.object "PupilsPupil$Test")) dU rU) (hdU : dU + 6 ≤ d) {rF : Nat → PH → Option ((Nat ⊕ Nat) × PH)} {dF : Nat} (okF : OkR l D A cap yX2_fact cX2_fact 3 (Option.some (Jvm.ClassFile.FieldType.object "PupilsPupil$Test")) dF rF) (hdF : dF + 6 ≤ d) {a0 : Nat} {h h' : PH} {r : Nat} (hf : fX2_both D cap rS rB rU rF a0 h = some (.inl r, h')) : CMet l D A cap yX2_both cX2_both 2 (Option.some (Jvm.ClassFile.FieldType.object "PupilsPupil$Test")) d [.ref a0] h h' (some (.ref r)) := by
  unfold fX2_both at hf
  refine p_head (own := RX2) (ini := false) (pn_X2 rfl) rfl (fun q => by cases q) (Nat.le_of_ble_eq_true rfl) (fun m Z cx sx H0 ls X hM hl => ?_)
  have G := X.g
  have hl : lv_has ls 2 [(0, .ref a0)] := hl
  obtain ⟨p1, h1, g1, hf⟩ := bnd_open hf
  refine p_new X hM pc_10 q942 q943 q170 (by decide +kernel) g1 dX2_both_0 (fun H locs hM => ?_)
  refine g_dup G dX2_both_3 rfl ?_
  refine g_iconst (v := 1) G dX2_both_4 rfl ?_
  obtain ⟨h2, g2, hf⟩ := bnv_open hf
  refine p_callI_v (As := [.int (bI true)]) (rest := [.ref p1]) X hM hl pcy_X10_init rfl q944 q945 (kX10_init g2) rfl (Nat.lt_of_lt_of_le (by decide) hd) (Nat.le_of_ble_eq_true rfl) rfl dX2_both_5 (fun H locs hM => ?_)
  refine g_astore_n (i := 1) (lv' := [(1, .ref p1), (0, .ref a0)]) G dX2_both_8 rfl hl (Nat.le_of_ble_eq_true rfl) rfl (fun ls hl => ?_)
  refine g_aload_n G dX2_both_9 rfl (lv_at hl 0 rfl) ?_
  obtain ⟨p2, g3, hf⟩ := vA_open hf
  refine p_getN (k := 0) X hM pc_10 (by decide) q954 rfl g3 dX2_both_10 ?_
  refine g_aload_n G dX2_both_13 rfl (lv_at hl 1 rfl) ?_
  obtain ⟨b1, hf⟩ := ckc_open hf
  obtain ⟨p3, h3, g4, hf⟩ := bnx_ret hf
  refine p_callV_r (ci := 2) (As := []) (rest := [.ref p2]) X hM hl rfl b1 pcy_X2_fact q965 q967 qs24 (kX2_fact (d := d - 1) (by omega) okS (by omega) okB (by omega) okU (by omega) okF (by omega) g4) rfl (by omega) (Nat.le_of_ble_eq_true rfl) rfl dX2_both_14 (fun H locs hM => ?_)
  obtain ⟨b2, hf⟩ := ckc_open hf
  obtain ⟨r1, h4, g6, hf⟩ := bnd_open hf
  refine p_callF_r (As := [va_rf (some p3)]) (rest := []) X hM hl b2 pcy_J2_add (fun U hK => hK.1.2.2.1.2.2) ⟨by decide +kernel, by decide +kernel, by decide +kernel⟩ q809 q814 q812 (kJ2_add g6) rfl (Nat.lt_of_lt_of_le (by decide) hd) (Nat.le_of_ble_eq_true rfl) rfl dX2_both_17 (fun H locs hM => ?_)
  refine g_pop G dX2_both_22 rfl ?_
  have L23 : ∀ (n : Nat) (h5 : PH) (H : Heap) (locs : List Loc), fx (fX2_both_L23 D cap a0 rS rB rU rF p1) (fun _ => none) n h5 = some (.inl r, h') → PI D A cap H0 h5 H locs → ∀ ls : Array Slot, lv_has ls 2 [(0, .ref a0), (1, .ref p1)] → Z H locs (cx H) (sx H) (F0 m 23 ls []) := by
    intro n
    induction n with
    | zero => intro h5 H locs hf; exact absurd hf (by intro q; cases q)
    | succ n ih23 =>
      intro h5 H locs hf hM ls hl
      rw [fx_s] at hf
      generalize fx (fX2_both_L23 D cap a0 rS rB rU rF p1) (fun _ => none) n = s23 at hf ih23
      unfold fX2_both_L23 at hf
      refine g_aload_n G dX2_both_23 rfl (lv_at hl 0 rfl) ?_
      refine p_ldcsW X (i := 18) rfl dX2_both_24 ?_
      obtain ⟨b3, hf⟩ := ckc_open hf
      obtain ⟨r2, h6, g7, hf⟩ := bnx_ret hf
      refine p_callV_r (ci := 2) (As := [.ref (dK D 18)]) (rest := []) X hM hl rfl b3 pcy_X2_passes q978 q980 qs27 (kX2_passes g7) rfl (Nat.lt_of_lt_of_le (by decide) hd) (Nat.le_of_ble_eq_true rfl) rfl dX2_both_27 (fun H locs hM => ?_)
      refine g_if_eq (tgt := 50) G dX2_both_30 rfl (fun c1 => ?_) (fun c1 => ?_)
      · have hf := it_pos c1 hf
        refine g_aload_n G dX2_both_50 rfl (lv_at hl 1 rfl) ?_
        cases hf
        exact p_aret X (Or.inl ⟨_, rfl⟩) hM rfl dX2_both_51
      · have hf := it_neg c1 hf
        refine g_aload_n G dX2_both_33 rfl (lv_at hl 1 rfl) ?_
        obtain ⟨p4, g9, hf⟩ := vA_open hf
        refine p_getN (k := 0) X hM pc_10 (by decide) q954 rfl g9 dX2_both_34 ?_
        refine g_aload_n G dX2_both_37 rfl (lv_at hl 0 rfl) ?_
        obtain ⟨b4, hf⟩ := ckc_open hf
        obtain ⟨p5, h7, g10, hf⟩ := bnx_ret hf
        refine p_callV_r (ci := 2) (As := []) (rest := [.ref p4]) X hM hl rfl b4 pcy_X2_fact q965 q967 qs24 (kX2_fact (d := d - 1) (by omega) okS (by omega) okB (by omega) okU (by omega) okF (by omega) g10) rfl (by omega) (Nat.le_of_ble_eq_true rfl) rfl dX2_both_38 (fun H locs hM => ?_)
        obtain ⟨b5, hf⟩ := ckc_open hf
        obtain ⟨r3, h8, g12, hf⟩ := bnd_open hf
        refine p_callF_r (As := [va_rf (some p5)]) (rest := []) X hM hl b5 pcy_J2_add (fun U hK => hK.1.2.2.1.2.2) ⟨by decide +kernel, by decide +kernel, by decide +kernel⟩ q809 q814 q812 (kJ2_add g12) rfl (Nat.lt_of_lt_of_le (by decide) hd) (Nat.le_of_ble_eq_true rfl) rfl dX2_both_41 (fun H locs hM => ?_)
        refine g_pop G dX2_both_46 rfl ?_
        refine g_goto (tgt := 23) G dX2_both_47 rfl ?_
        exact ih23 _ _ _ hf hM ls (lv_sub hl [0, 1] rfl)
  exact L23 FU _ _ _ hf hM ls (lv_sub hl [1, 0] rfl)
set_option maxHeartbeats 1000000 in
theorem xX2_both {l : Launch} {D : PD} {A : Nat → Prop} {cap : Nat × Nat} {d : Nat} (hd : 12 ≤ d) {rS : Nat → PH → Option ((Nat ⊕ Nat) × PH)} {dS : Nat} (okS : OkR l D A cap yX2_sum cX2_sum 3 (Option.some (Jvm.ClassFile.FieldType.object "PupilsPupil$Value")) dS rS) (hdS : dS + 6 ≤ d) {rB : Nat → PH → Option ((Nat ⊕ Nat) × PH)} {dB : Nat} (okB : OkR l D A cap yX2_atom cX2_atom 3 (Option.some (Jvm.ClassFile.FieldType.object "PupilsPupil$Value")) dB rB) (hdB : dB + 6 ≤ d) {rU : Nat → PH → Option ((Nat ⊕ Nat) × PH)} {dU : Nat} (okU : OkR l D A cap yX2_test cX2_test 2 (Option.some (Jvm.ClassFile.FieldType.object "PupilsPupil$Test")) dU rU) (hdU : dU + 6 ≤ d) {rF : Nat → PH → Option ((Nat ⊕ Nat) × PH)} {dF : Nat} (okF : OkR l D A cap yX2_fact cX2_fact 3 (Option.some (Jvm.ClassFile.FieldType.object "PupilsPupil$Test")) dF rF) (hdF : dF + 6 ≤ d) {a0 : Nat} {h h' : PH} {q : Nat} (hf : fX2_both D cap rS rB rU rF a0 h = some (.inr q, h')) : XMet l D A cap yX2_both cX2_both 2 (Option.some (Jvm.ClassFile.FieldType.object "PupilsPupil$Test")) d [.ref a0] h h' (q) := by
  unfold fX2_both at hf
  refine p_headT (own := RX2) (ini := false) (pn_X2 rfl) rfl (fun q => by cases q) (Nat.le_of_ble_eq_true rfl) (fun m Z cx sx H0 ls X XT hM hl => ?_)
  have G := X.g
  have hl : lv_has ls 2 [(0, .ref a0)] := hl
  obtain ⟨p1, h1, g1, hf⟩ := bnd_open hf
  refine p_new X hM pc_10 q942 q943 q170 (by decide +kernel) g1 dX2_both_0 (fun H locs hM => ?_)
  refine g_dup G dX2_both_3 rfl ?_
  refine g_iconst (v := 1) G dX2_both_4 rfl ?_
  obtain ⟨h2, g2, hf⟩ := bnv_open hf
  refine p_callI_v (As := [.int (bI true)]) (rest := [.ref p1]) X hM hl pcy_X10_init rfl q944 q945 (kX10_init g2) rfl (Nat.lt_of_lt_of_le (by decide) hd) (Nat.le_of_ble_eq_true rfl) rfl dX2_both_5 (fun H locs hM => ?_)
  refine g_astore_n (i := 1) (lv' := [(1, .ref p1), (0, .ref a0)]) G dX2_both_8 rfl hl (Nat.le_of_ble_eq_true rfl) rfl (fun ls hl => ?_)
  refine g_aload_n G dX2_both_9 rfl (lv_at hl 0 rfl) ?_
  obtain ⟨p2, g3, hf⟩ := vA_open hf
  refine p_getN (k := 0) X hM pc_10 (by decide) q954 rfl g3 dX2_both_10 ?_
  refine g_aload_n G dX2_both_13 rfl (lv_at hl 1 rfl) ?_
  obtain ⟨b1, hf⟩ := ckc_open hf
  refine bnx_split hf (fun g5 => ?_) (fun p3 h3 g4 hf => ?_)
  · exact p_callT (ci := 2) (As := []) (rest := [.ref p2]) XT hM hl rfl b1 pcy_X2_fact q965 q967 qs24 (xX2_fact (d := d - 1) (by omega) okS (by omega) okB (by omega) okU (by omega) okF (by omega) g5) rfl (by omega) (Nat.le_of_ble_eq_true rfl) rfl dX2_both_14
  refine p_callV_r (ci := 2) (As := []) (rest := [.ref p2]) X hM hl rfl b1 pcy_X2_fact q965 q967 qs24 (kX2_fact (d := d - 1) (by omega) okS (by omega) okB (by omega) okU (by omega) okF (by omega) g4) rfl (by omega) (Nat.le_of_ble_eq_true rfl) rfl dX2_both_14 (fun H locs hM => ?_)
  obtain ⟨b2, hf⟩ := ckc_open hf
  obtain ⟨r1, h4, g6, hf⟩ := bnd_open hf
  refine p_callF_r (As := [va_rf (some p3)]) (rest := []) X hM hl b2 pcy_J2_add (fun U hK => hK.1.2.2.1.2.2) ⟨by decide +kernel, by decide +kernel, by decide +kernel⟩ q809 q814 q812 (kJ2_add g6) rfl (Nat.lt_of_lt_of_le (by decide) hd) (Nat.le_of_ble_eq_true rfl) rfl dX2_both_17 (fun H locs hM => ?_)
  refine g_pop G dX2_both_22 rfl ?_
  have L23 : ∀ (n : Nat) (h5 : PH) (H : Heap) (locs : List Loc), fx (fX2_both_L23 D cap a0 rS rB rU rF p1) (fun _ => none) n h5 = some (.inr q, h') → PI D A cap H0 h5 H locs → ∀ ls : Array Slot, lv_has ls 2 [(0, .ref a0), (1, .ref p1)] → Z H locs (cx H) (sx H) (F0 m 23 ls []) := by
    intro n
    induction n with
    | zero => intro h5 H locs hf; exact absurd hf (by intro q; cases q)
    | succ n ih23 =>
      intro h5 H locs hf hM ls hl
      rw [fx_s] at hf
      generalize fx (fX2_both_L23 D cap a0 rS rB rU rF p1) (fun _ => none) n = s23 at hf ih23
      unfold fX2_both_L23 at hf
      refine g_aload_n G dX2_both_23 rfl (lv_at hl 0 rfl) ?_
      refine p_ldcsW X (i := 18) rfl dX2_both_24 ?_
      obtain ⟨b3, hf⟩ := ckc_open hf
      refine bnx_split hf (fun g8 => ?_) (fun r2 h6 g7 hf => ?_)
      · exact p_callT (ci := 2) (As := [.ref (dK D 18)]) (rest := []) XT hM hl rfl b3 pcy_X2_passes q978 q980 qs27 (xX2_passes g8) rfl (Nat.lt_of_lt_of_le (by decide) hd) (Nat.le_of_ble_eq_true rfl) rfl dX2_both_27
      refine p_callV_r (ci := 2) (As := [.ref (dK D 18)]) (rest := []) X hM hl rfl b3 pcy_X2_passes q978 q980 qs27 (kX2_passes g7) rfl (Nat.lt_of_lt_of_le (by decide) hd) (Nat.le_of_ble_eq_true rfl) rfl dX2_both_27 (fun H locs hM => ?_)
      refine g_if_eq (tgt := 50) G dX2_both_30 rfl (fun c1 => ?_) (fun c1 => ?_)
      · have hf := it_pos c1 hf
        refine g_aload_n G dX2_both_50 rfl (lv_at hl 1 rfl) ?_
        exact absurd hf (by intro z; cases z)
      · have hf := it_neg c1 hf
        refine g_aload_n G dX2_both_33 rfl (lv_at hl 1 rfl) ?_
        obtain ⟨p4, g9, hf⟩ := vA_open hf
        refine p_getN (k := 0) X hM pc_10 (by decide) q954 rfl g9 dX2_both_34 ?_
        refine g_aload_n G dX2_both_37 rfl (lv_at hl 0 rfl) ?_
        obtain ⟨b4, hf⟩ := ckc_open hf
        refine bnx_split hf (fun g11 => ?_) (fun p5 h7 g10 hf => ?_)
        · exact p_callT (ci := 2) (As := []) (rest := [.ref p4]) XT hM hl rfl b4 pcy_X2_fact q965 q967 qs24 (xX2_fact (d := d - 1) (by omega) okS (by omega) okB (by omega) okU (by omega) okF (by omega) g11) rfl (by omega) (Nat.le_of_ble_eq_true rfl) rfl dX2_both_38
        refine p_callV_r (ci := 2) (As := []) (rest := [.ref p4]) X hM hl rfl b4 pcy_X2_fact q965 q967 qs24 (kX2_fact (d := d - 1) (by omega) okS (by omega) okB (by omega) okU (by omega) okF (by omega) g10) rfl (by omega) (Nat.le_of_ble_eq_true rfl) rfl dX2_both_38 (fun H locs hM => ?_)
        obtain ⟨b5, hf⟩ := ckc_open hf
        obtain ⟨r3, h8, g12, hf⟩ := bnd_open hf
        refine p_callF_r (As := [va_rf (some p5)]) (rest := []) X hM hl b5 pcy_J2_add (fun U hK => hK.1.2.2.1.2.2) ⟨by decide +kernel, by decide +kernel, by decide +kernel⟩ q809 q814 q812 (kJ2_add g12) rfl (Nat.lt_of_lt_of_le (by decide) hd) (Nat.le_of_ble_eq_true rfl) rfl dX2_both_41 (fun H locs hM => ?_)
        refine g_pop G dX2_both_46 rfl ?_
        refine g_goto (tgt := 23) G dX2_both_47 rfl ?_
        exact ih23 _ _ _ hf hM ls (lv_sub hl [0, 1] rfl)
  exact L23 FU _ _ _ hf hM ls (lv_sub hl [1, 0] rfl)
noncomputable def fX2_test_L23 (D : PD) (cap : Nat × Nat) (a0 : Nat) (rS : Nat → PH → Option ((Nat ⊕ Nat) × PH)) (rB : Nat → PH → Option ((Nat ⊕ Nat) × PH)) (rU : Nat → PH → Option ((Nat ⊕ Nat) × PH)) (rF : Nat → PH → Option ((Nat ⊕ Nat) × PH)) (p1 : Nat) (s23 : PH → Option ((Nat ⊕ Nat) × PH)) (h5 : PH) : Option ((Nat ⊕ Nat) × PH) :=
  ckc (pCls h5 a0) 2 <|
  bnx (fX2_passes D cap a0 (dK D 19) h5) fun r2 h6 =>
  if (bI r2) = 0 then
    some (.inl p1, h6)
  else
    vA (pF h6 p1 10 0) fun p4 =>
    ckc (pCls h6 a0) 2 <|
    bnx (fX2_both D cap rS rB rU rF a0 h6) fun p5 h7 =>
    ckc (pCls h7 p4) 21 <|
    bnd (fJ2_add D cap p4 (some p5) h7) fun r3 h8 =>
    s23 h8
noncomputable def fX2_test (D : PD) (cap : Nat × Nat) (rS : Nat → PH → Option ((Nat ⊕ Nat) × PH)) (rB : Nat → PH → Option ((Nat ⊕ Nat) × PH)) (rU : Nat → PH → Option ((Nat ⊕ Nat) × PH)) (rF : Nat → PH → Option ((Nat ⊕ Nat) × PH)) (a0 : Nat) (h : PH) : Option ((Nat ⊕ Nat) × PH) :=
  bnd (pNew cap h (.inr (10, [.null, .int 0])) 2) fun p1 h1 =>
  bnv (fX10_init D cap p1 false h1) fun h2 =>
  vA (pF h2 p1 10 0) fun p2 =>
  ckc (pCls h2 a0) 2 <|
  bnx (fX2_both D cap rS rB rU rF a0 h2) fun p3 h3 =>
  ckc (pCls h3 p2) 21 <|
  bnd (fJ2_add D cap p2 (some p3) h3) fun r1 h4 =>
  fx (fX2_test_L23 D cap a0 rS rB rU rF p1) (fun _ => none) FU  h4
set_option maxHeartbeats 1000000 in
theorem kX2_test {l : Launch} {D : PD} {A : Nat → Prop} {cap : Nat × Nat} {d : Nat} (hd : 13 ≤ d) {rS : Nat → PH → Option ((Nat ⊕ Nat) × PH)} {dS : Nat} (okS : OkR l D A cap yX2_sum cX2_sum 3 (Option.some (Jvm.ClassFile.FieldType.object "PupilsPupil$Value")) dS rS) (hdS : dS + 7 ≤ d) {rB : Nat → PH → Option ((Nat ⊕ Nat) × PH)} {dB : Nat} (okB : OkR l D A cap yX2_atom cX2_atom 3 (Option.some (Jvm.ClassFile.FieldType.object "PupilsPupil$Value")) dB rB) (hdB : dB + 7 ≤ d) {rU : Nat → PH → Option ((Nat ⊕ Nat) × PH)} {dU : Nat} (okU : OkR l D A cap yX2_test cX2_test 2 (Option.some (Jvm.ClassFile.FieldType.object "PupilsPupil$Test")) dU rU) (hdU : dU + 7 ≤ d) {rF : Nat → PH → Option ((Nat ⊕ Nat) × PH)} {dF : Nat} (okF : OkR l D A cap yX2_fact cX2_fact 3 (Option.some (Jvm.ClassFile.FieldType.object "PupilsPupil$Test")) dF rF) (hdF : dF + 7 ≤ d) {a0 : Nat} {h h' : PH} {r : Nat} (hf : fX2_test D cap rS rB rU rF a0 h = some (.inl r, h')) : CMet l D A cap yX2_test cX2_test 2 (Option.some (Jvm.ClassFile.FieldType.object "PupilsPupil$Test")) d [.ref a0] h h' (some (.ref r)) := by
  unfold fX2_test at hf
  refine p_head (own := RX2) (ini := false) (pn_X2 rfl) rfl (fun q => by cases q) (Nat.le_of_ble_eq_true rfl) (fun m Z cx sx H0 ls X hM hl => ?_)
  have G := X.g
  have hl : lv_has ls 2 [(0, .ref a0)] := hl
  obtain ⟨p1, h1, g1, hf⟩ := bnd_open hf
  refine p_new X hM pc_10 q942 q943 q170 (by decide +kernel) g1 dX2_test_0 (fun H locs hM => ?_)
  refine g_dup G dX2_test_3 rfl ?_
  refine g_iconst (v := 0) G dX2_test_4 rfl ?_
  obtain ⟨h2, g2, hf⟩ := bnv_open hf
  refine p_callI_v (As := [.int (bI false)]) (rest := [.ref p1]) X hM hl pcy_X10_init rfl q944 q945 (kX10_init g2) rfl (Nat.lt_of_lt_of_le (by decide) hd) (Nat.le_of_ble_eq_true rfl) rfl dX2_test_5 (fun H locs hM => ?_)
  refine g_astore_n (i := 1) (lv' := [(1, .ref p1), (0, .ref a0)]) G dX2_test_8 rfl hl (Nat.le_of_ble_eq_true rfl) rfl (fun ls hl => ?_)
  refine g_aload_n G dX2_test_9 rfl (lv_at hl 0 rfl) ?_
  obtain ⟨p2, g3, hf⟩ := vA_open hf
  refine p_getN (k := 0) X hM pc_10 (by decide) q954 rfl g3 dX2_test_10 ?_
  refine g_aload_n G dX2_test_13 rfl (lv_at hl 1 rfl) ?_
  obtain ⟨b1, hf⟩ := ckc_open hf
  obtain ⟨p3, h3, g4, hf⟩ := bnx_ret hf
  refine p_callV_r (ci := 2) (As := []) (rest := [.ref p2]) X hM hl rfl b1 pcy_X2_both q961 q963 qs23 (kX2_both (d := d - 1) (by omega) okS (by omega) okB (by omega) okU (by omega) okF (by omega) g4) rfl (by omega) (Nat.le_of_ble_eq_true rfl) rfl dX2_test_14 (fun H locs hM => ?_)
  obtain ⟨b2, hf⟩ := ckc_open hf
  obtain ⟨r1, h4, g6, hf⟩ := bnd_open hf
  refine p_callF_r (As := [va_rf (some p3)]) (rest := []) X hM hl b2 pcy_J2_add (fun U hK => hK.1.2.2.1.2.2) ⟨by decide +kernel, by decide +kernel, by decide +kernel⟩ q809 q814 q812 (kJ2_add g6) rfl (Nat.lt_of_lt_of_le (by decide) hd) (Nat.le_of_ble_eq_true rfl) rfl dX2_test_17 (fun H locs hM => ?_)
  refine g_pop G dX2_test_22 rfl ?_
  have L23 : ∀ (n : Nat) (h5 : PH) (H : Heap) (locs : List Loc), fx (fX2_test_L23 D cap a0 rS rB rU rF p1) (fun _ => none) n h5 = some (.inl r, h') → PI D A cap H0 h5 H locs → ∀ ls : Array Slot, lv_has ls 2 [(0, .ref a0), (1, .ref p1)] → Z H locs (cx H) (sx H) (F0 m 23 ls []) := by
    intro n
    induction n with
    | zero => intro h5 H locs hf; exact absurd hf (by intro q; cases q)
    | succ n ih23 =>
      intro h5 H locs hf hM ls hl
      rw [fx_s] at hf
      generalize fx (fX2_test_L23 D cap a0 rS rB rU rF p1) (fun _ => none) n = s23 at hf ih23
      unfold fX2_test_L23 at hf
      refine g_aload_n G dX2_test_23 rfl (lv_at hl 0 rfl) ?_
      refine p_ldcsW X (i := 19) rfl dX2_test_24 ?_
      obtain ⟨b3, hf⟩ := ckc_open hf
      obtain ⟨r2, h6, g7, hf⟩ := bnx_ret hf
      refine p_callV_r (ci := 2) (As := [.ref (dK D 19)]) (rest := []) X hM hl rfl b3 pcy_X2_passes q978 q980 qs27 (kX2_passes g7) rfl (Nat.lt_of_lt_of_le (by decide) hd) (Nat.le_of_ble_eq_true rfl) rfl dX2_test_27 (fun H locs hM => ?_)
      refine g_if_eq (tgt := 50) G dX2_test_30 rfl (fun c1 => ?_) (fun c1 => ?_)
      · have hf := it_pos c1 hf
        refine g_aload_n G dX2_test_50 rfl (lv_at hl 1 rfl) ?_
        cases hf
        exact p_aret X (Or.inl ⟨_, rfl⟩) hM rfl dX2_test_51
      · have hf := it_neg c1 hf
        refine g_aload_n G dX2_test_33 rfl (lv_at hl 1 rfl) ?_
        obtain ⟨p4, g9, hf⟩ := vA_open hf
        refine p_getN (k := 0) X hM pc_10 (by decide) q954 rfl g9 dX2_test_34 ?_
        refine g_aload_n G dX2_test_37 rfl (lv_at hl 0 rfl) ?_
        obtain ⟨b4, hf⟩ := ckc_open hf
        obtain ⟨p5, h7, g10, hf⟩ := bnx_ret hf
        refine p_callV_r (ci := 2) (As := []) (rest := [.ref p4]) X hM hl rfl b4 pcy_X2_both q961 q963 qs23 (kX2_both (d := d - 1) (by omega) okS (by omega) okB (by omega) okU (by omega) okF (by omega) g10) rfl (by omega) (Nat.le_of_ble_eq_true rfl) rfl dX2_test_38 (fun H locs hM => ?_)
        obtain ⟨b5, hf⟩ := ckc_open hf
        obtain ⟨r3, h8, g12, hf⟩ := bnd_open hf
        refine p_callF_r (As := [va_rf (some p5)]) (rest := []) X hM hl b5 pcy_J2_add (fun U hK => hK.1.2.2.1.2.2) ⟨by decide +kernel, by decide +kernel, by decide +kernel⟩ q809 q814 q812 (kJ2_add g12) rfl (Nat.lt_of_lt_of_le (by decide) hd) (Nat.le_of_ble_eq_true rfl) rfl dX2_test_41 (fun H locs hM => ?_)
        refine g_pop G dX2_test_46 rfl ?_
        refine g_goto (tgt := 23) G dX2_test_47 rfl ?_
        exact ih23 _ _ _ hf hM ls (lv_sub hl [0, 1] rfl)
  exact L23 FU _ _ _ hf hM ls (lv_sub hl [1, 0] rfl)
set_option maxHeartbeats 1000000 in
theorem xX2_test {l : Launch} {D : PD} {A : Nat → Prop} {cap : Nat × Nat} {d : Nat} (hd : 13 ≤ d) {rS : Nat → PH → Option ((Nat ⊕ Nat) × PH)} {dS : Nat} (okS : OkR l D A cap yX2_sum cX2_sum 3 (Option.some (Jvm.ClassFile.FieldType.object "PupilsPupil$Value")) dS rS) (hdS : dS + 7 ≤ d) {rB : Nat → PH → Option ((Nat ⊕ Nat) × PH)} {dB : Nat} (okB : OkR l D A cap yX2_atom cX2_atom 3 (Option.some (Jvm.ClassFile.FieldType.object "PupilsPupil$Value")) dB rB) (hdB : dB + 7 ≤ d) {rU : Nat → PH → Option ((Nat ⊕ Nat) × PH)} {dU : Nat} (okU : OkR l D A cap yX2_test cX2_test 2 (Option.some (Jvm.ClassFile.FieldType.object "PupilsPupil$Test")) dU rU) (hdU : dU + 7 ≤ d) {rF : Nat → PH → Option ((Nat ⊕ Nat) × PH)} {dF : Nat} (okF : OkR l D A cap yX2_fact cX2_fact 3 (Option.some (Jvm.ClassFile.FieldType.object "PupilsPupil$Test")) dF rF) (hdF : dF + 7 ≤ d) {a0 : Nat} {h h' : PH} {q : Nat} (hf : fX2_test D cap rS rB rU rF a0 h = some (.inr q, h')) : XMet l D A cap yX2_test cX2_test 2 (Option.some (Jvm.ClassFile.FieldType.object "PupilsPupil$Test")) d [.ref a0] h h' (q) := by
  unfold fX2_test at hf
  refine p_headT (own := RX2) (ini := false) (pn_X2 rfl) rfl (fun q => by cases q) (Nat.le_of_ble_eq_true rfl) (fun m Z cx sx H0 ls X XT hM hl => ?_)
  have G := X.g
  have hl : lv_has ls 2 [(0, .ref a0)] := hl
  obtain ⟨p1, h1, g1, hf⟩ := bnd_open hf
  refine p_new X hM pc_10 q942 q943 q170 (by decide +kernel) g1 dX2_test_0 (fun H locs hM => ?_)
  refine g_dup G dX2_test_3 rfl ?_
  refine g_iconst (v := 0) G dX2_test_4 rfl ?_
  obtain ⟨h2, g2, hf⟩ := bnv_open hf
  refine p_callI_v (As := [.int (bI false)]) (rest := [.ref p1]) X hM hl pcy_X10_init rfl q944 q945 (kX10_init g2) rfl (Nat.lt_of_lt_of_le (by decide) hd) (Nat.le_of_ble_eq_true rfl) rfl dX2_test_5 (fun H locs hM => ?_)
  refine g_astore_n (i := 1) (lv' := [(1, .ref p1), (0, .ref a0)]) G dX2_test_8 rfl hl (Nat.le_of_ble_eq_true rfl) rfl (fun ls hl => ?_)
  refine g_aload_n G dX2_test_9 rfl (lv_at hl 0 rfl) ?_
  obtain ⟨p2, g3, hf⟩ := vA_open hf
  refine p_getN (k := 0) X hM pc_10 (by decide) q954 rfl g3 dX2_test_10 ?_
  refine g_aload_n G dX2_test_13 rfl (lv_at hl 1 rfl) ?_
  obtain ⟨b1, hf⟩ := ckc_open hf
  refine bnx_split hf (fun g5 => ?_) (fun p3 h3 g4 hf => ?_)
  · exact p_callT (ci := 2) (As := []) (rest := [.ref p2]) XT hM hl rfl b1 pcy_X2_both q961 q963 qs23 (xX2_both (d := d - 1) (by omega) okS (by omega) okB (by omega) okU (by omega) okF (by omega) g5) rfl (by omega) (Nat.le_of_ble_eq_true rfl) rfl dX2_test_14
  refine p_callV_r (ci := 2) (As := []) (rest := [.ref p2]) X hM hl rfl b1 pcy_X2_both q961 q963 qs23 (kX2_both (d := d - 1) (by omega) okS (by omega) okB (by omega) okU (by omega) okF (by omega) g4) rfl (by omega) (Nat.le_of_ble_eq_true rfl) rfl dX2_test_14 (fun H locs hM => ?_)
  obtain ⟨b2, hf⟩ := ckc_open hf
  obtain ⟨r1, h4, g6, hf⟩ := bnd_open hf
  refine p_callF_r (As := [va_rf (some p3)]) (rest := []) X hM hl b2 pcy_J2_add (fun U hK => hK.1.2.2.1.2.2) ⟨by decide +kernel, by decide +kernel, by decide +kernel⟩ q809 q814 q812 (kJ2_add g6) rfl (Nat.lt_of_lt_of_le (by decide) hd) (Nat.le_of_ble_eq_true rfl) rfl dX2_test_17 (fun H locs hM => ?_)
  refine g_pop G dX2_test_22 rfl ?_
  have L23 : ∀ (n : Nat) (h5 : PH) (H : Heap) (locs : List Loc), fx (fX2_test_L23 D cap a0 rS rB rU rF p1) (fun _ => none) n h5 = some (.inr q, h') → PI D A cap H0 h5 H locs → ∀ ls : Array Slot, lv_has ls 2 [(0, .ref a0), (1, .ref p1)] → Z H locs (cx H) (sx H) (F0 m 23 ls []) := by
    intro n
    induction n with
    | zero => intro h5 H locs hf; exact absurd hf (by intro q; cases q)
    | succ n ih23 =>
      intro h5 H locs hf hM ls hl
      rw [fx_s] at hf
      generalize fx (fX2_test_L23 D cap a0 rS rB rU rF p1) (fun _ => none) n = s23 at hf ih23
      unfold fX2_test_L23 at hf
      refine g_aload_n G dX2_test_23 rfl (lv_at hl 0 rfl) ?_
      refine p_ldcsW X (i := 19) rfl dX2_test_24 ?_
      obtain ⟨b3, hf⟩ := ckc_open hf
      refine bnx_split hf (fun g8 => ?_) (fun r2 h6 g7 hf => ?_)
      · exact p_callT (ci := 2) (As := [.ref (dK D 19)]) (rest := []) XT hM hl rfl b3 pcy_X2_passes q978 q980 qs27 (xX2_passes g8) rfl (Nat.lt_of_lt_of_le (by decide) hd) (Nat.le_of_ble_eq_true rfl) rfl dX2_test_27
      refine p_callV_r (ci := 2) (As := [.ref (dK D 19)]) (rest := []) X hM hl rfl b3 pcy_X2_passes q978 q980 qs27 (kX2_passes g7) rfl (Nat.lt_of_lt_of_le (by decide) hd) (Nat.le_of_ble_eq_true rfl) rfl dX2_test_27 (fun H locs hM => ?_)
      refine g_if_eq (tgt := 50) G dX2_test_30 rfl (fun c1 => ?_) (fun c1 => ?_)
      · have hf := it_pos c1 hf
        refine g_aload_n G dX2_test_50 rfl (lv_at hl 1 rfl) ?_
        exact absurd hf (by intro z; cases z)
      · have hf := it_neg c1 hf
        refine g_aload_n G dX2_test_33 rfl (lv_at hl 1 rfl) ?_
        obtain ⟨p4, g9, hf⟩ := vA_open hf
        refine p_getN (k := 0) X hM pc_10 (by decide) q954 rfl g9 dX2_test_34 ?_
        refine g_aload_n G dX2_test_37 rfl (lv_at hl 0 rfl) ?_
        obtain ⟨b4, hf⟩ := ckc_open hf
        refine bnx_split hf (fun g11 => ?_) (fun p5 h7 g10 hf => ?_)
        · exact p_callT (ci := 2) (As := []) (rest := [.ref p4]) XT hM hl rfl b4 pcy_X2_both q961 q963 qs23 (xX2_both (d := d - 1) (by omega) okS (by omega) okB (by omega) okU (by omega) okF (by omega) g11) rfl (by omega) (Nat.le_of_ble_eq_true rfl) rfl dX2_test_38
        refine p_callV_r (ci := 2) (As := []) (rest := [.ref p4]) X hM hl rfl b4 pcy_X2_both q961 q963 qs23 (kX2_both (d := d - 1) (by omega) okS (by omega) okB (by omega) okU (by omega) okF (by omega) g10) rfl (by omega) (Nat.le_of_ble_eq_true rfl) rfl dX2_test_38 (fun H locs hM => ?_)
        obtain ⟨b5, hf⟩ := ckc_open hf
        obtain ⟨r3, h8, g12, hf⟩ := bnd_open hf
        refine p_callF_r (As := [va_rf (some p5)]) (rest := []) X hM hl b5 pcy_J2_add (fun U hK => hK.1.2.2.1.2.2) ⟨by decide +kernel, by decide +kernel, by decide +kernel⟩ q809 q814 q812 (kJ2_add g12) rfl (Nat.lt_of_lt_of_le (by decide) hd) (Nat.le_of_ble_eq_true rfl) rfl dX2_test_41 (fun H locs hM => ?_)
        refine g_pop G dX2_test_46 rfl ?_
        refine g_goto (tgt := 23) G dX2_test_47 rfl ?_
        exact ih23 _ _ _ hf hM ls (lv_sub hl [0, 1] rfl)
  exact L23 FU _ _ _ hf hM ls (lv_sub hl [1, 0] rfl)
noncomputable def vSB (D : PD) (cap : Nat × Nat) : Nat → (Nat → PH → Option ((Nat ⊕ Nat) × PH)) × (Nat → PH → Option ((Nat ⊕ Nat) × PH))
  | 0 => (fun _ _ => none, fun _ _ => none)
  | n + 1 => (fX2_sum D cap (vSB D cap n).1 (vSB D cap n).2, fX2_atom D cap (vSB D cap n).1 (vSB D cap n).2)
noncomputable def vSumT (D : PD) (cap : Nat × Nat) : (Nat → PH → Option ((Nat ⊕ Nat) × PH)) := (vSB D cap 10).1
noncomputable def vTF (D : PD) (cap : Nat × Nat) : Nat → (Nat → PH → Option ((Nat ⊕ Nat) × PH)) × (Nat → PH → Option ((Nat ⊕ Nat) × PH))
  | 0 => (fun _ _ => none, fun _ _ => none)
  | n + 1 => (fX2_test D cap (vSB D cap 10).1 (vSB D cap 10).2 (vTF D cap n).1 (vTF D cap n).2, fX2_fact D cap (vSB D cap 10).1 (vSB D cap 10).2 (vTF D cap n).1 (vTF D cap n).2)
noncomputable def vTestT (D : PD) (cap : Nat × Nat) : (Nat → PH → Option ((Nat ⊕ Nat) × PH)) := (vTF D cap 10).1
theorem ok_vSB {l : Launch} {D : PD} {A : Nat → Prop} {cap : Nat × Nat} : ∀ n, OkR l D A cap yX2_sum cX2_sum 3 (Option.some (Jvm.ClassFile.FieldType.object "PupilsPupil$Value")) (10 + 5 * n) (vSB D cap n).1 ∧ OkR l D A cap yX2_atom cX2_atom 3 (Option.some (Jvm.ClassFile.FieldType.object "PupilsPupil$Value")) (10 + 5 * n) (vSB D cap n).2
  | 0 => ⟨⟨fun a h r h1 hf => (by cases hf), fun a h r h1 hf => (by cases hf)⟩, ⟨fun a h r h1 hf => (by cases hf), fun a h r h1 hf => (by cases hf)⟩⟩
  | n + 1 => by
    have ih := ok_vSB (l := l) (D := D) (A := A) (cap := cap) n
    exact ⟨⟨fun a h r h1 hf => kX2_sum (by omega) ih.1 (by omega) ih.2 (by omega) hf, fun a h r h1 hf => xX2_sum (by omega) ih.1 (by omega) ih.2 (by omega) hf⟩, ⟨fun a h r h1 hf => kX2_atom (by omega) ih.1 (by omega) ih.2 (by omega) hf, fun a h r h1 hf => xX2_atom (by omega) ih.1 (by omega) ih.2 (by omega) hf⟩⟩
theorem ok_vTF {l : Launch} {D : PD} {A : Nat → Prop} {cap : Nat × Nat} : ∀ n, OkR l D A cap yX2_test cX2_test 2 (Option.some (Jvm.ClassFile.FieldType.object "PupilsPupil$Test")) (68 + 8 * n) (vTF D cap n).1 ∧ OkR l D A cap yX2_fact cX2_fact 3 (Option.some (Jvm.ClassFile.FieldType.object "PupilsPupil$Test")) (68 + 8 * n) (vTF D cap n).2
  | 0 => ⟨⟨fun a h r h1 hf => (by cases hf), fun a h r h1 hf => (by cases hf)⟩, ⟨fun a h r h1 hf => (by cases hf), fun a h r h1 hf => (by cases hf)⟩⟩
  | n + 1 => by
    have ih := ok_vTF (l := l) (D := D) (A := A) (cap := cap) n
    have is := ok_vSB (l := l) (D := D) (A := A) (cap := cap) 10
    exact ⟨⟨fun a h r h1 hf => kX2_test (by omega) is.1 (by omega) is.2 (by omega) ih.1 (by omega) ih.2 (by omega) hf, fun a h r h1 hf => xX2_test (by omega) is.1 (by omega) is.2 (by omega) ih.1 (by omega) ih.2 (by omega) hf⟩, ⟨fun a h r h1 hf => kX2_fact (by omega) is.1 (by omega) is.2 (by omega) ih.1 (by omega) ih.2 (by omega) hf, fun a h r h1 hf => xX2_fact (by omega) is.1 (by omega) is.2 (by omega) ih.1 (by omega) ih.2 (by omega) hf⟩⟩
theorem kvSumT {l : Launch} {D : PD} {A : Nat → Prop} {cap : Nat × Nat} {a : Nat} {h h' : PH} {r : Nat} (hf : vSumT D cap a h = some (.inl r, h')) : CMet l D A cap yX2_sum cX2_sum 3 (Option.some (Jvm.ClassFile.FieldType.object "PupilsPupil$Value")) 60 [.ref a] h h' (some (.ref r)) := (ok_vSB 10).1.1 _ _ _ _ hf
theorem xvSumT {l : Launch} {D : PD} {A : Nat → Prop} {cap : Nat × Nat} {a : Nat} {h h' : PH} {q : Nat} (hf : vSumT D cap a h = some (.inr q, h')) : XMet l D A cap yX2_sum cX2_sum 3 (Option.some (Jvm.ClassFile.FieldType.object "PupilsPupil$Value")) 60 [.ref a] h h' q := (ok_vSB 10).1.2 _ _ _ _ hf
theorem kvTestT {l : Launch} {D : PD} {A : Nat → Prop} {cap : Nat × Nat} {a : Nat} {h h' : PH} {r : Nat} (hf : vTestT D cap a h = some (.inl r, h')) : CMet l D A cap yX2_test cX2_test 2 (Option.some (Jvm.ClassFile.FieldType.object "PupilsPupil$Test")) 148 [.ref a] h h' (some (.ref r)) := (ok_vTF 10).1.1 _ _ _ _ hf
theorem xvTestT {l : Launch} {D : PD} {A : Nat → Prop} {cap : Nat × Nat} {a : Nat} {h h' : PH} {q : Nat} (hf : vTestT D cap a h = some (.inr q, h')) : XMet l D A cap yX2_test cX2_test 2 (Option.some (Jvm.ClassFile.FieldType.object "PupilsPupil$Test")) 148 [.ref a] h h' q := (ok_vTF 10).1.2 _ _ _ _ hf
