/-! PART 30.c (printed by dc.py, mkc.py) -/
set_option maxRecDepth 100000
theorem pcy_J8_checkIndex : pcY yJ8_checkIndex cJ8_checkIndex 3 (Option.some Jvm.ClassFile.FieldType.int) 3 := ⟨q771, q160, ⟨by decide +kernel, by decide +kernel, by decide +kernel⟩, Nat.le_of_ble_eq_true rfl⟩
noncomputable def fJ8_checkIndex (a1 : Int32) (a2 : Int32) (a3 : Option Nat) (h : PH) : Option (Int32 × PH) :=
  jn (fun (h1 : PH) =>
    none) fun j9 =>
  if a1 < 0 then
    j9 h
  else
    if a1 < a2 then
      some (a1, h)
    else
      j9 h
set_option maxHeartbeats 1000000 in
theorem kJ8_checkIndex {l : Launch} {D : PD} {A : Nat → Prop} {cap : Nat × Nat} {a1 : Int32} {a2 : Int32} {a3 : Option Nat} {h h' : PH} {r : Int32} (hf : fJ8_checkIndex a1 a2 a3 h = some (r, h')) : CMet l D A cap yJ8_checkIndex cJ8_checkIndex 3 (Option.some Jvm.ClassFile.FieldType.int) 1 [.int a1, .int a2, va_rf a3] h h' (some (.int r)) := by
  unfold fJ8_checkIndex at hf
  refine p_head (own := RJ8) (ini := false) (pn_J8 rfl) rfl (fun q => by cases q) (by simp [lg_sl, cat_q, cat_i, cat_l, cat_r]) (fun m Z cx sx H0 ls X hM hl => ?_)
  have G := X.g
  have hl : lv_has ls 3 [(0, .int a1), (1, .int a2), (2, va_rf a3)] := by simpa [lv_args, cat_q, cat_i, cat_l, cat_r] using hl
  refine g_iload_n G dJ8_checkIndex_0 rfl (lv_at hl 0 rfl) ?_
  obtain ⟨j9, ej9, hf⟩ := jn_open hf
  have J9 : ∀ (h1 : PH) (H : Heap) (locs : List Loc), j9 h1 = some (r, h') → PI D A cap H0 h1 H locs → ∀ ls : Array Slot, lv_has ls 3 [(0, .int a1), (1, .int a2), (2, va_rf a3)] → Z H locs (cx H) (sx H) (F0 m 9 ls []) := by
    intro h1 H locs hf hM ls hl
    rw [ej9] at hf
    exact absurd hf (by intro q; cases q)
  refine g_if_lt (tgt := 9) G dJ8_checkIndex_1 rfl (fun c1 => ?_) (fun c1 => ?_)
  · have hf := it_pos c1 hf
    exact J9 _ _ _ hf hM ls (lv_sub hl [0, 1, 2] rfl)
  · have hf := it_neg c1 hf
    refine g_iload_n G dJ8_checkIndex_4 rfl (lv_at hl 0 rfl) ?_
    refine g_iload_n G dJ8_checkIndex_5 rfl (lv_at hl 1 rfl) ?_
    refine g_icmp_lt (tgt := 16) G dJ8_checkIndex_6 rfl (fun c2 => ?_) (fun c2 => ?_)
    · have hf := it_pos c2 hf
      refine g_iload_n G dJ8_checkIndex_16 rfl (lv_at hl 0 rfl) ?_
      exact p_iret X hM hf dJ8_checkIndex_17
    · have hf := it_neg c2 hf
      exact J9 _ _ _ hf hM ls (lv_sub hl [0, 1, 2] rfl)
theorem pcy_J11_checkIndex : pcY yJ11_checkIndex cJ11_checkIndex 2 (Option.some Jvm.ClassFile.FieldType.int) 2 := ⟨q768, q164, ⟨by decide +kernel, by decide +kernel, by decide +kernel⟩, Nat.le_of_ble_eq_true rfl⟩
noncomputable def fJ11_checkIndex (a1 : Int32) (a2 : Int32) (h : PH) : Option (Int32 × PH) :=
  bnd (fJ8_checkIndex a1 a2 none h) fun r1 h1 =>
  some (r1, h1)
set_option maxHeartbeats 1000000 in
theorem kJ11_checkIndex {l : Launch} {D : PD} {A : Nat → Prop} {cap : Nat × Nat} {a1 : Int32} {a2 : Int32} {h h' : PH} {r : Int32} (hf : fJ11_checkIndex a1 a2 h = some (r, h')) : CMet l D A cap yJ11_checkIndex cJ11_checkIndex 2 (Option.some Jvm.ClassFile.FieldType.int) 2 [.int a1, .int a2] h h' (some (.int r)) := by
  unfold fJ11_checkIndex at hf
  refine p_head (own := RJ11) (ini := false) (pn_J11 rfl) rfl (fun q => by cases q) (Nat.le_of_ble_eq_true rfl) (fun m Z cx sx H0 ls X hM hl => ?_)
  have G := X.g
  have hl : lv_has ls 2 [(0, .int a1), (1, .int a2)] := hl
  refine g_iload_n G dJ11_checkIndex_0 rfl (lv_at hl 0 rfl) ?_
  refine g_iload_n G dJ11_checkIndex_1 rfl (lv_at hl 1 rfl) ?_
  refine g_null G dJ11_checkIndex_2 ?_
  obtain ⟨r1, h1, g1, hf⟩ := bnd_open hf
  refine p_callS_r (As := [.int a1, .int a2, va_rf none]) (rest := []) X hM hl pcy_J8_checkIndex q769 q770 (kJ8_checkIndex g1) rfl (Nat.le_of_ble_eq_true rfl) (Nat.le_of_ble_eq_true rfl) rfl dJ11_checkIndex_3 (fun H locs hM => ?_)
  exact p_iret X hM hf dJ11_checkIndex_6
theorem pcy_J2_size : pcY yJ2_size cJ2_size 1 (Option.some Jvm.ClassFile.FieldType.int) 0 := ⟨q729, q149, ⟨by decide +kernel, by decide +kernel, by decide +kernel⟩, Nat.le_of_ble_eq_true rfl⟩
noncomputable def fJ2_size (a0 : Nat) (h : PH) : Option (Int32 × PH) :=
  vI (pF h a0 21 2) fun v1 =>
  some (v1, h)
set_option maxHeartbeats 1000000 in
theorem kJ2_size {l : Launch} {D : PD} {A : Nat → Prop} {cap : Nat × Nat} {a0 : Nat} {h h' : PH} {r : Int32} (hf : fJ2_size a0 h = some (r, h')) : CMet l D A cap yJ2_size cJ2_size 1 (Option.some Jvm.ClassFile.FieldType.int) 1 [.ref a0] h h' (some (.int r)) := by
  unfold fJ2_size at hf
  refine p_head (own := RJ2) (ini := false) (pn_J2 rfl) rfl (fun q => by cases q) (Nat.le_of_ble_eq_true rfl) (fun m Z cx sx H0 ls X hM hl => ?_)
  have G := X.g
  have hl : lv_has ls 1 [(0, .ref a0)] := hl
  refine g_aload_n G dJ2_size_0 rfl (lv_at hl 0 rfl) ?_
  obtain ⟨v1, g1, hf⟩ := vI_open hf
  refine p_get (k := 2) X hM pc_21 (by decide) q215 rfl g1 dJ2_size_1 ?_
  exact p_iret X hM hf dJ2_size_4
theorem pcy_J2_elementData : pcY yJ2_elementData cJ2_elementData 2 (Option.some (Jvm.ClassFile.FieldType.object "java/lang/Object")) 1 := ⟨q775, q149, ⟨by decide +kernel, by decide +kernel, by decide +kernel⟩, Nat.le_of_ble_eq_true rfl⟩
noncomputable def fJ2_elementData (a0 : Nat) (a1 : Int32) (h : PH) : Option (Option Nat × PH) :=
  vA (pF h a0 21 1) fun p1 =>
  ob (pLdQ h p1 4 a1) fun q1 =>
  some (q1, h)
set_option maxHeartbeats 1000000 in
theorem kJ2_elementData {l : Launch} {D : PD} {A : Nat → Prop} {cap : Nat × Nat} {a0 : Nat} {a1 : Int32} {h h' : PH} {r : Option Nat} (hf : fJ2_elementData a0 a1 h = some (r, h')) : CMet l D A cap yJ2_elementData cJ2_elementData 2 (Option.some (Jvm.ClassFile.FieldType.object "java/lang/Object")) 1 [.ref a0, .int a1] h h' (some (va_rf r)) := by
  unfold fJ2_elementData at hf
  refine p_head (own := RJ2) (ini := false) (pn_J2 rfl) rfl (fun q => by cases q) (Nat.le_of_ble_eq_true rfl) (fun m Z cx sx H0 ls X hM hl => ?_)
  have G := X.g
  have hl : lv_has ls 2 [(0, .ref a0), (1, .int a1)] := hl
  refine g_aload_n G dJ2_elementData_0 rfl (lv_at hl 0 rfl) ?_
  obtain ⟨p1, g1, hf⟩ := vA_open hf
  refine p_get (k := 1) X hM pc_21 (by decide) q214 rfl g1 dJ2_elementData_1 ?_
  refine g_iload_n G dJ2_elementData_4 rfl (lv_at hl 1 rfl) ?_
  obtain ⟨q1, g2, hf⟩ := ob_open hf
  refine p_aald X hM (kd := 4) (by decide) rfl g2 dJ2_elementData_5 ?_
  exact p_qret X (Or.inl ⟨_, rfl⟩) hM hf dJ2_elementData_6
theorem pcy_J2_get : pcY yJ2_get cJ2_get 2 (Option.some (Jvm.ClassFile.FieldType.object "java/lang/Object")) 1 := ⟨q765, q149, ⟨by decide +kernel, by decide +kernel, by decide +kernel⟩, Nat.le_of_ble_eq_true rfl⟩
noncomputable def fJ2_get (a0 : Nat) (a1 : Int32) (h : PH) : Option (Option Nat × PH) :=
  vI (pF h a0 21 2) fun v1 =>
  bnd (fJ11_checkIndex a1 v1 h) fun r1 h1 =>
  ckc (pCls h1 a0) 21 <|
  bnd (fJ2_elementData a0 a1 h1) fun q1 h2 =>
  some (q1, h2)
set_option maxHeartbeats 1000000 in
theorem kJ2_get {l : Launch} {D : PD} {A : Nat → Prop} {cap : Nat × Nat} {a0 : Nat} {a1 : Int32} {h h' : PH} {r : Option Nat} (hf : fJ2_get a0 a1 h = some (r, h')) : CMet l D A cap yJ2_get cJ2_get 2 (Option.some (Jvm.ClassFile.FieldType.object "java/lang/Object")) 3 [.ref a0, .int a1] h h' (some (va_rf r)) := by
  unfold fJ2_get at hf
  refine p_head (own := RJ2) (ini := false) (pn_J2 rfl) rfl (fun q => by cases q) (Nat.le_of_ble_eq_true rfl) (fun m Z cx sx H0 ls X hM hl => ?_)
  have G := X.g
  have hl : lv_has ls 2 [(0, .ref a0), (1, .int a1)] := hl
  refine g_iload_n G dJ2_get_0 rfl (lv_at hl 1 rfl) ?_
  refine g_aload_n G dJ2_get_1 rfl (lv_at hl 0 rfl) ?_
  obtain ⟨v1, g1, hf⟩ := vI_open hf
  refine p_get (k := 2) X hM pc_21 (by decide) q215 rfl g1 dJ2_get_2 ?_
  obtain ⟨r1, h1, g2, hf⟩ := bnd_open hf
  refine p_callS_r (As := [.int a1, .int v1]) (rest := []) X hM hl pcy_J11_checkIndex q766 q767 (kJ11_checkIndex g2) rfl (Nat.le_of_ble_eq_true rfl) (Nat.le_of_ble_eq_true rfl) rfl dJ2_get_5 (fun H locs hM => ?_)
  refine g_pop G dJ2_get_8 rfl ?_
  refine g_aload_n G dJ2_get_9 rfl (lv_at hl 0 rfl) ?_
  refine g_iload_n G dJ2_get_10 rfl (lv_at hl 1 rfl) ?_
  obtain ⟨b1, hf⟩ := ckc_open hf
  obtain ⟨q1, h2, g3, hf⟩ := bnd_open hf
  refine p_callV_r (ci := 21) (As := [.int a1]) (rest := []) X hM hl rfl b1 pcy_J2_elementData q772 q773 q774 (kJ2_elementData g3) rfl (Nat.le_of_ble_eq_true rfl) (Nat.le_of_ble_eq_true rfl) rfl dJ2_get_11 (fun H locs hM => ?_)
  exact p_qret X (Or.inl ⟨_, rfl⟩) hM hf dJ2_get_14
theorem pcy_J16_bitCount : pcY yJ16_bitCount cJ16_bitCount 1 (Option.some Jvm.ClassFile.FieldType.int) 1 := ⟨q1230, q182, ⟨by decide +kernel, by decide +kernel, by decide +kernel⟩, Nat.le_of_ble_eq_true rfl⟩
noncomputable def fJ16_bitCount (a1 : Int32) (h : PH) : Option (Int32 × PH) :=
  some (((((((((a1 - (((a1.toUInt32 >>> (Int32.toUInt32 1 &&& Int32.toUInt32 31)).toInt32) &&& 1431655765)) &&& 858993459) + ((((a1 - (((a1.toUInt32 >>> (Int32.toUInt32 1 &&& Int32.toUInt32 31)).toInt32) &&& 1431655765)).toUInt32 >>> (Int32.toUInt32 2 &&& Int32.toUInt32 31)).toInt32) &&& 858993459)) + (((((a1 - (((a1.toUInt32 >>> (Int32.toUInt32 1 &&& Int32.toUInt32 31)).toInt32) &&& 1431655765)) &&& 858993459) + ((((a1 - (((a1.toUInt32 >>> (Int32.toUInt32 1 &&& Int32.toUInt32 31)).toInt32) &&& 1431655765)).toUInt32 >>> (Int32.toUInt32 2 &&& Int32.toUInt32 31)).toInt32) &&& 858993459)).toUInt32 >>> (Int32.toUInt32 4 &&& Int32.toUInt32 31)).toInt32)) &&& 252645135) + (((((((a1 - (((a1.toUInt32 >>> (Int32.toUInt32 1 &&& Int32.toUInt32 31)).toInt32) &&& 1431655765)) &&& 858993459) + ((((a1 - (((a1.toUInt32 >>> (Int32.toUInt32 1 &&& Int32.toUInt32 31)).toInt32) &&& 1431655765)).toUInt32 >>> (Int32.toUInt32 2 &&& Int32.toUInt32 31)).toInt32) &&& 858993459)) + (((((a1 - (((a1.toUInt32 >>> (Int32.toUInt32 1 &&& Int32.toUInt32 31)).toInt32) &&& 1431655765)) &&& 858993459) + ((((a1 - (((a1.toUInt32 >>> (Int32.toUInt32 1 &&& Int32.toUInt32 31)).toInt32) &&& 1431655765)).toUInt32 >>> (Int32.toUInt32 2 &&& Int32.toUInt32 31)).toInt32) &&& 858993459)).toUInt32 >>> (Int32.toUInt32 4 &&& Int32.toUInt32 31)).toInt32)) &&& 252645135).toUInt32 >>> (Int32.toUInt32 8 &&& Int32.toUInt32 31)).toInt32)) + ((((((((a1 - (((a1.toUInt32 >>> (Int32.toUInt32 1 &&& Int32.toUInt32 31)).toInt32) &&& 1431655765)) &&& 858993459) + ((((a1 - (((a1.toUInt32 >>> (Int32.toUInt32 1 &&& Int32.toUInt32 31)).toInt32) &&& 1431655765)).toUInt32 >>> (Int32.toUInt32 2 &&& Int32.toUInt32 31)).toInt32) &&& 858993459)) + (((((a1 - (((a1.toUInt32 >>> (Int32.toUInt32 1 &&& Int32.toUInt32 31)).toInt32) &&& 1431655765)) &&& 858993459) + ((((a1 - (((a1.toUInt32 >>> (Int32.toUInt32 1 &&& Int32.toUInt32 31)).toInt32) &&& 1431655765)).toUInt32 >>> (Int32.toUInt32 2 &&& Int32.toUInt32 31)).toInt32) &&& 858993459)).toUInt32 >>> (Int32.toUInt32 4 &&& Int32.toUInt32 31)).toInt32)) &&& 252645135) + (((((((a1 - (((a1.toUInt32 >>> (Int32.toUInt32 1 &&& Int32.toUInt32 31)).toInt32) &&& 1431655765)) &&& 858993459) + ((((a1 - (((a1.toUInt32 >>> (Int32.toUInt32 1 &&& Int32.toUInt32 31)).toInt32) &&& 1431655765)).toUInt32 >>> (Int32.toUInt32 2 &&& Int32.toUInt32 31)).toInt32) &&& 858993459)) + (((((a1 - (((a1.toUInt32 >>> (Int32.toUInt32 1 &&& Int32.toUInt32 31)).toInt32) &&& 1431655765)) &&& 858993459) + ((((a1 - (((a1.toUInt32 >>> (Int32.toUInt32 1 &&& Int32.toUInt32 31)).toInt32) &&& 1431655765)).toUInt32 >>> (Int32.toUInt32 2 &&& Int32.toUInt32 31)).toInt32) &&& 858993459)).toUInt32 >>> (Int32.toUInt32 4 &&& Int32.toUInt32 31)).toInt32)) &&& 252645135).toUInt32 >>> (Int32.toUInt32 8 &&& Int32.toUInt32 31)).toInt32)).toUInt32 >>> (Int32.toUInt32 16 &&& Int32.toUInt32 31)).toInt32)) &&& 63), h)
set_option maxHeartbeats 1000000 in
theorem kJ16_bitCount {l : Launch} {D : PD} {A : Nat → Prop} {cap : Nat × Nat} {a1 : Int32} {h h' : PH} {r : Int32} (hf : fJ16_bitCount a1 h = some (r, h')) : CMet l D A cap yJ16_bitCount cJ16_bitCount 1 (Option.some Jvm.ClassFile.FieldType.int) 1 [.int a1] h h' (some (.int r)) := by
  unfold fJ16_bitCount at hf
  refine p_head (own := RJ16) (ini := false) (pn_J16 rfl) rfl (fun q => by cases q) (Nat.le_of_ble_eq_true rfl) (fun m Z cx sx H0 ls X hM hl => ?_)
  have G := X.g
  have hl : lv_has ls 1 [(0, .int a1)] := hl
  refine g_iload_n G dJ16_bitCount_0 rfl (lv_at hl 0 rfl) ?_
  refine g_iload_n G dJ16_bitCount_1 rfl (lv_at hl 0 rfl) ?_
  refine g_iconst (v := 1) G dJ16_bitCount_2 rfl ?_
  refine g_iushr (v := (a1.toUInt32 >>> (Int32.toUInt32 1 &&& Int32.toUInt32 31)).toInt32) G dJ16_bitCount_3 rfl ?_
  refine g_ldcw G q1231 dJ16_bitCount_4 ?_
  refine g_iand G dJ16_bitCount_7 ?_
  refine g_isub G dJ16_bitCount_8 ?_
  refine g_istore_n (i := 0) (lv' := [(0, .int (a1 - (((a1.toUInt32 >>> (Int32.toUInt32 1 &&& Int32.toUInt32 31)).toInt32) &&& 1431655765)))]) G dJ16_bitCount_9 rfl hl (Nat.le_of_ble_eq_true rfl) rfl (fun ls hl => ?_)
  refine g_iload_n G dJ16_bitCount_10 rfl (lv_at hl 0 rfl) ?_
  refine g_ldcw G q1232 dJ16_bitCount_11 ?_
  refine g_iand G dJ16_bitCount_14 ?_
  refine g_iload_n G dJ16_bitCount_15 rfl (lv_at hl 0 rfl) ?_
  refine g_iconst (v := 2) G dJ16_bitCount_16 rfl ?_
  refine g_iushr (v := ((a1 - (((a1.toUInt32 >>> (Int32.toUInt32 1 &&& Int32.toUInt32 31)).toInt32) &&& 1431655765)).toUInt32 >>> (Int32.toUInt32 2 &&& Int32.toUInt32 31)).toInt32) G dJ16_bitCount_17 rfl ?_
  refine g_ldcw G q1232 dJ16_bitCount_18 ?_
  refine g_iand G dJ16_bitCount_21 ?_
  refine g_iadd G dJ16_bitCount_22 ?_
  refine g_istore_n (i := 0) (lv' := [(0, .int (((a1 - (((a1.toUInt32 >>> (Int32.toUInt32 1 &&& Int32.toUInt32 31)).toInt32) &&& 1431655765)) &&& 858993459) + ((((a1 - (((a1.toUInt32 >>> (Int32.toUInt32 1 &&& Int32.toUInt32 31)).toInt32) &&& 1431655765)).toUInt32 >>> (Int32.toUInt32 2 &&& Int32.toUInt32 31)).toInt32) &&& 858993459)))]) G dJ16_bitCount_23 rfl hl (Nat.le_of_ble_eq_true rfl) rfl (fun ls hl => ?_)
  refine g_iload_n G dJ16_bitCount_24 rfl (lv_at hl 0 rfl) ?_
  refine g_iload_n G dJ16_bitCount_25 rfl (lv_at hl 0 rfl) ?_
  refine g_iconst (v := 4) G dJ16_bitCount_26 rfl ?_
  refine g_iushr (v := ((((a1 - (((a1.toUInt32 >>> (Int32.toUInt32 1 &&& Int32.toUInt32 31)).toInt32) &&& 1431655765)) &&& 858993459) + ((((a1 - (((a1.toUInt32 >>> (Int32.toUInt32 1 &&& Int32.toUInt32 31)).toInt32) &&& 1431655765)).toUInt32 >>> (Int32.toUInt32 2 &&& Int32.toUInt32 31)).toInt32) &&& 858993459)).toUInt32 >>> (Int32.toUInt32 4 &&& Int32.toUInt32 31)).toInt32) G dJ16_bitCount_27 rfl ?_
  refine g_iadd G dJ16_bitCount_28 ?_
  refine g_ldcw G q1233 dJ16_bitCount_29 ?_
  refine g_iand G dJ16_bitCount_32 ?_
  refine g_istore_n (i := 0) (lv' := [(0, .int (((((a1 - (((a1.toUInt32 >>> (Int32.toUInt32 1 &&& Int32.toUInt32 31)).toInt32) &&& 1431655765)) &&& 858993459) + ((((a1 - (((a1.toUInt32 >>> (Int32.toUInt32 1 &&& Int32.toUInt32 31)).toInt32) &&& 1431655765)).toUInt32 >>> (Int32.toUInt32 2 &&& Int32.toUInt32 31)).toInt32) &&& 858993459)) + (((((a1 - (((a1.toUInt32 >>> (Int32.toUInt32 1 &&& Int32.toUInt32 31)).toInt32) &&& 1431655765)) &&& 858993459) + ((((a1 - (((a1.toUInt32 >>> (Int32.toUInt32 1 &&& Int32.toUInt32 31)).toInt32) &&& 1431655765)).toUInt32 >>> (Int32.toUInt32 2 &&& Int32.toUInt32 31)).toInt32) &&& 858993459)).toUInt32 >>> (Int32.toUInt32 4 &&& Int32.toUInt32 31)).toInt32)) &&& 252645135))]) G dJ16_bitCount_33 rfl hl (Nat.le_of_ble_eq_true rfl) rfl (fun ls hl => ?_)
  refine g_iload_n G dJ16_bitCount_34 rfl (lv_at hl 0 rfl) ?_
  refine g_iload_n G dJ16_bitCount_35 rfl (lv_at hl 0 rfl) ?_
  refine g_bipush (v := 8) G dJ16_bitCount_36 rfl ?_
  refine g_iushr (v := ((((((a1 - (((a1.toUInt32 >>> (Int32.toUInt32 1 &&& Int32.toUInt32 31)).toInt32) &&& 1431655765)) &&& 858993459) + ((((a1 - (((a1.toUInt32 >>> (Int32.toUInt32 1 &&& Int32.toUInt32 31)).toInt32) &&& 1431655765)).toUInt32 >>> (Int32.toUInt32 2 &&& Int32.toUInt32 31)).toInt32) &&& 858993459)) + (((((a1 - (((a1.toUInt32 >>> (Int32.toUInt32 1 &&& Int32.toUInt32 31)).toInt32) &&& 1431655765)) &&& 858993459) + ((((a1 - (((a1.toUInt32 >>> (Int32.toUInt32 1 &&& Int32.toUInt32 31)).toInt32) &&& 1431655765)).toUInt32 >>> (Int32.toUInt32 2 &&& Int32.toUInt32 31)).toInt32) &&& 858993459)).toUInt32 >>> (Int32.toUInt32 4 &&& Int32.toUInt32 31)).toInt32)) &&& 252645135).toUInt32 >>> (Int32.toUInt32 8 &&& Int32.toUInt32 31)).toInt32) G dJ16_bitCount_38 rfl ?_
  refine g_iadd G dJ16_bitCount_39 ?_
  refine g_istore_n (i := 0) (lv' := [(0, .int ((((((a1 - (((a1.toUInt32 >>> (Int32.toUInt32 1 &&& Int32.toUInt32 31)).toInt32) &&& 1431655765)) &&& 858993459) + ((((a1 - (((a1.toUInt32 >>> (Int32.toUInt32 1 &&& Int32.toUInt32 31)).toInt32) &&& 1431655765)).toUInt32 >>> (Int32.toUInt32 2 &&& Int32.toUInt32 31)).toInt32) &&& 858993459)) + (((((a1 - (((a1.toUInt32 >>> (Int32.toUInt32 1 &&& Int32.toUInt32 31)).toInt32) &&& 1431655765)) &&& 858993459) + ((((a1 - (((a1.toUInt32 >>> (Int32.toUInt32 1 &&& Int32.toUInt32 31)).toInt32) &&& 1431655765)).toUInt32 >>> (Int32.toUInt32 2 &&& Int32.toUInt32 31)).toInt32) &&& 858993459)).toUInt32 >>> (Int32.toUInt32 4 &&& Int32.toUInt32 31)).toInt32)) &&& 252645135) + (((((((a1 - (((a1.toUInt32 >>> (Int32.toUInt32 1 &&& Int32.toUInt32 31)).toInt32) &&& 1431655765)) &&& 858993459) + ((((a1 - (((a1.toUInt32 >>> (Int32.toUInt32 1 &&& Int32.toUInt32 31)).toInt32) &&& 1431655765)).toUInt32 >>> (Int32.toUInt32 2 &&& Int32.toUInt32 31)).toInt32) &&& 858993459)) + (((((a1 - (((a1.toUInt32 >>> (Int32.toUInt32 1 &&& Int32.toUInt32 31)).toInt32) &&& 1431655765)) &&& 858993459) + ((((a1 - (((a1.toUInt32 >>> (Int32.toUInt32 1 &&& Int32.toUInt32 31)).toInt32) &&& 1431655765)).toUInt32 >>> (Int32.toUInt32 2 &&& Int32.toUInt32 31)).toInt32) &&& 858993459)).toUInt32 >>> (Int32.toUInt32 4 &&& Int32.toUInt32 31)).toInt32)) &&& 252645135).toUInt32 >>> (Int32.toUInt32 8 &&& Int32.toUInt32 31)).toInt32)))]) G dJ16_bitCount_40 rfl hl (Nat.le_of_ble_eq_true rfl) rfl (fun ls hl => ?_)
  refine g_iload_n G dJ16_bitCount_41 rfl (lv_at hl 0 rfl) ?_
  refine g_iload_n G dJ16_bitCount_42 rfl (lv_at hl 0 rfl) ?_
  refine g_bipush (v := 16) G dJ16_bitCount_43 rfl ?_
  refine g_iushr (v := (((((((a1 - (((a1.toUInt32 >>> (Int32.toUInt32 1 &&& Int32.toUInt32 31)).toInt32) &&& 1431655765)) &&& 858993459) + ((((a1 - (((a1.toUInt32 >>> (Int32.toUInt32 1 &&& Int32.toUInt32 31)).toInt32) &&& 1431655765)).toUInt32 >>> (Int32.toUInt32 2 &&& Int32.toUInt32 31)).toInt32) &&& 858993459)) + (((((a1 - (((a1.toUInt32 >>> (Int32.toUInt32 1 &&& Int32.toUInt32 31)).toInt32) &&& 1431655765)) &&& 858993459) + ((((a1 - (((a1.toUInt32 >>> (Int32.toUInt32 1 &&& Int32.toUInt32 31)).toInt32) &&& 1431655765)).toUInt32 >>> (Int32.toUInt32 2 &&& Int32.toUInt32 31)).toInt32) &&& 858993459)).toUInt32 >>> (Int32.toUInt32 4 &&& Int32.toUInt32 31)).toInt32)) &&& 252645135) + (((((((a1 - (((a1.toUInt32 >>> (Int32.toUInt32 1 &&& Int32.toUInt32 31)).toInt32) &&& 1431655765)) &&& 858993459) + ((((a1 - (((a1.toUInt32 >>> (Int32.toUInt32 1 &&& Int32.toUInt32 31)).toInt32) &&& 1431655765)).toUInt32 >>> (Int32.toUInt32 2 &&& Int32.toUInt32 31)).toInt32) &&& 858993459)) + (((((a1 - (((a1.toUInt32 >>> (Int32.toUInt32 1 &&& Int32.toUInt32 31)).toInt32) &&& 1431655765)) &&& 858993459) + ((((a1 - (((a1.toUInt32 >>> (Int32.toUInt32 1 &&& Int32.toUInt32 31)).toInt32) &&& 1431655765)).toUInt32 >>> (Int32.toUInt32 2 &&& Int32.toUInt32 31)).toInt32) &&& 858993459)).toUInt32 >>> (Int32.toUInt32 4 &&& Int32.toUInt32 31)).toInt32)) &&& 252645135).toUInt32 >>> (Int32.toUInt32 8 &&& Int32.toUInt32 31)).toInt32)).toUInt32 >>> (Int32.toUInt32 16 &&& Int32.toUInt32 31)).toInt32) G dJ16_bitCount_45 rfl ?_
  refine g_iadd G dJ16_bitCount_46 ?_
  refine g_istore_n (i := 0) (lv' := [(0, .int (((((((a1 - (((a1.toUInt32 >>> (Int32.toUInt32 1 &&& Int32.toUInt32 31)).toInt32) &&& 1431655765)) &&& 858993459) + ((((a1 - (((a1.toUInt32 >>> (Int32.toUInt32 1 &&& Int32.toUInt32 31)).toInt32) &&& 1431655765)).toUInt32 >>> (Int32.toUInt32 2 &&& Int32.toUInt32 31)).toInt32) &&& 858993459)) + (((((a1 - (((a1.toUInt32 >>> (Int32.toUInt32 1 &&& Int32.toUInt32 31)).toInt32) &&& 1431655765)) &&& 858993459) + ((((a1 - (((a1.toUInt32 >>> (Int32.toUInt32 1 &&& Int32.toUInt32 31)).toInt32) &&& 1431655765)).toUInt32 >>> (Int32.toUInt32 2 &&& Int32.toUInt32 31)).toInt32) &&& 858993459)).toUInt32 >>> (Int32.toUInt32 4 &&& Int32.toUInt32 31)).toInt32)) &&& 252645135) + (((((((a1 - (((a1.toUInt32 >>> (Int32.toUInt32 1 &&& Int32.toUInt32 31)).toInt32) &&& 1431655765)) &&& 858993459) + ((((a1 - (((a1.toUInt32 >>> (Int32.toUInt32 1 &&& Int32.toUInt32 31)).toInt32) &&& 1431655765)).toUInt32 >>> (Int32.toUInt32 2 &&& Int32.toUInt32 31)).toInt32) &&& 858993459)) + (((((a1 - (((a1.toUInt32 >>> (Int32.toUInt32 1 &&& Int32.toUInt32 31)).toInt32) &&& 1431655765)) &&& 858993459) + ((((a1 - (((a1.toUInt32 >>> (Int32.toUInt32 1 &&& Int32.toUInt32 31)).toInt32) &&& 1431655765)).toUInt32 >>> (Int32.toUInt32 2 &&& Int32.toUInt32 31)).toInt32) &&& 858993459)).toUInt32 >>> (Int32.toUInt32 4 &&& Int32.toUInt32 31)).toInt32)) &&& 252645135).toUInt32 >>> (Int32.toUInt32 8 &&& Int32.toUInt32 31)).toInt32)) + ((((((((a1 - (((a1.toUInt32 >>> (Int32.toUInt32 1 &&& Int32.toUInt32 31)).toInt32) &&& 1431655765)) &&& 858993459) + ((((a1 - (((a1.toUInt32 >>> (Int32.toUInt32 1 &&& Int32.toUInt32 31)).toInt32) &&& 1431655765)).toUInt32 >>> (Int32.toUInt32 2 &&& Int32.toUInt32 31)).toInt32) &&& 858993459)) + (((((a1 - (((a1.toUInt32 >>> (Int32.toUInt32 1 &&& Int32.toUInt32 31)).toInt32) &&& 1431655765)) &&& 858993459) + ((((a1 - (((a1.toUInt32 >>> (Int32.toUInt32 1 &&& Int32.toUInt32 31)).toInt32) &&& 1431655765)).toUInt32 >>> (Int32.toUInt32 2 &&& Int32.toUInt32 31)).toInt32) &&& 858993459)).toUInt32 >>> (Int32.toUInt32 4 &&& Int32.toUInt32 31)).toInt32)) &&& 252645135) + (((((((a1 - (((a1.toUInt32 >>> (Int32.toUInt32 1 &&& Int32.toUInt32 31)).toInt32) &&& 1431655765)) &&& 858993459) + ((((a1 - (((a1.toUInt32 >>> (Int32.toUInt32 1 &&& Int32.toUInt32 31)).toInt32) &&& 1431655765)).toUInt32 >>> (Int32.toUInt32 2 &&& Int32.toUInt32 31)).toInt32) &&& 858993459)) + (((((a1 - (((a1.toUInt32 >>> (Int32.toUInt32 1 &&& Int32.toUInt32 31)).toInt32) &&& 1431655765)) &&& 858993459) + ((((a1 - (((a1.toUInt32 >>> (Int32.toUInt32 1 &&& Int32.toUInt32 31)).toInt32) &&& 1431655765)).toUInt32 >>> (Int32.toUInt32 2 &&& Int32.toUInt32 31)).toInt32) &&& 858993459)).toUInt32 >>> (Int32.toUInt32 4 &&& Int32.toUInt32 31)).toInt32)) &&& 252645135).toUInt32 >>> (Int32.toUInt32 8 &&& Int32.toUInt32 31)).toInt32)).toUInt32 >>> (Int32.toUInt32 16 &&& Int32.toUInt32 31)).toInt32)))]) G dJ16_bitCount_47 rfl hl (Nat.le_of_ble_eq_true rfl) rfl (fun ls hl => ?_)
  refine g_iload_n G dJ16_bitCount_48 rfl (lv_at hl 0 rfl) ?_
  refine g_bipush (v := 63) G dJ16_bitCount_49 rfl ?_
  refine g_iand G dJ16_bitCount_51 ?_
  exact p_iret X hM hf dJ16_bitCount_52
theorem pcy_J12_max_2 : pcY yJ12_max_2 cJ12_max_2 4 (Option.some Jvm.ClassFile.FieldType.long) 2 := ⟨q1365, q165, ⟨by decide +kernel, by decide +kernel, by decide +kernel⟩, Nat.le_of_ble_eq_true rfl⟩
noncomputable def fJ12_max_2 (a1 : Int64) (a2 : Int64) (h : PH) : Option (Int64 × PH) :=
  if a1 < a2 then
    some (a2, h)
  else
    some (a1, h)
set_option maxHeartbeats 1000000 in
theorem kJ12_max_2 {l : Launch} {D : PD} {A : Nat → Prop} {cap : Nat × Nat} {a1 : Int64} {a2 : Int64} {h h' : PH} {r : Int64} (hf : fJ12_max_2 a1 a2 h = some (r, h')) : CMet l D A cap yJ12_max_2 cJ12_max_2 4 (Option.some Jvm.ClassFile.FieldType.long) 1 [.long a1, .long a2] h h' (some (.long r)) := by
  unfold fJ12_max_2 at hf
  refine p_head (own := RJ12) (ini := false) pnM_max_2 rfl (fun q => by cases q) (Nat.le_of_ble_eq_true rfl) (fun m Z cx sx H0 ls X hM hl => ?_)
  have G := X.g
  have hl : lv_has ls 4 [(0, .long a1), (2, .long a2)] := hl
  refine g_lload_n G dJ12_max_2_0 rfl (lv_at hl 0 rfl) ?_
  refine g_lload_n G dJ12_max_2_1 rfl (lv_at hl 1 rfl) ?_
  refine g_lc_lt (tgt := 10) G dJ12_max_2_2 dJ12_max_2_3 rfl (fun c1 => ?_) (fun c1 => ?_)
  · have hf := it_pos c1 hf
    refine g_lload_n G dJ12_max_2_10 rfl (lv_at hl 1 rfl) ?_
    exact p_lret X hM hf dJ12_max_2_11
  · have hf := it_neg c1 hf
    refine g_lload_n G dJ12_max_2_6 rfl (lv_at hl 0 rfl) ?_
    refine g_goto (tgt := 11) G dJ12_max_2_7 rfl ?_
    exact p_lret X hM hf dJ12_max_2_11
theorem pcy_J12_min_2 : pcY yJ12_min_2 cJ12_min_2 4 (Option.some Jvm.ClassFile.FieldType.long) 2 := ⟨q1362, q165, ⟨by decide +kernel, by decide +kernel, by decide +kernel⟩, Nat.le_of_ble_eq_true rfl⟩
noncomputable def fJ12_min_2 (a1 : Int64) (a2 : Int64) (h : PH) : Option (Int64 × PH) :=
  if a2 < a1 then
    some (a2, h)
  else
    some (a1, h)
set_option maxHeartbeats 1000000 in
theorem kJ12_min_2 {l : Launch} {D : PD} {A : Nat → Prop} {cap : Nat × Nat} {a1 : Int64} {a2 : Int64} {h h' : PH} {r : Int64} (hf : fJ12_min_2 a1 a2 h = some (r, h')) : CMet l D A cap yJ12_min_2 cJ12_min_2 4 (Option.some Jvm.ClassFile.FieldType.long) 1 [.long a1, .long a2] h h' (some (.long r)) := by
  unfold fJ12_min_2 at hf
  refine p_head (own := RJ12) (ini := false) pnM_min_2 rfl (fun q => by cases q) (Nat.le_of_ble_eq_true rfl) (fun m Z cx sx H0 ls X hM hl => ?_)
  have G := X.g
  have hl : lv_has ls 4 [(0, .long a1), (2, .long a2)] := hl
  refine g_lload_n G dJ12_min_2_0 rfl (lv_at hl 0 rfl) ?_
  refine g_lload_n G dJ12_min_2_1 rfl (lv_at hl 1 rfl) ?_
  refine g_lc_gt (tgt := 10) G dJ12_min_2_2 dJ12_min_2_3 rfl (fun c1 => ?_) (fun c1 => ?_)
  · have hf := it_pos c1 hf
    refine g_lload_n G dJ12_min_2_10 rfl (lv_at hl 1 rfl) ?_
    exact p_lret X hM hf dJ12_min_2_11
  · have hf := it_neg c1 hf
    refine g_lload_n G dJ12_min_2_6 rfl (lv_at hl 0 rfl) ?_
    refine g_goto (tgt := 11) G dJ12_min_2_7 rfl ?_
    exact p_lret X hM hf dJ12_min_2_11
theorem pcy_J12_max : pcY yJ12_max cJ12_max 2 (Option.some Jvm.ClassFile.FieldType.int) 2 := ⟨q836, q165, ⟨by decide +kernel, by decide +kernel, by decide +kernel⟩, Nat.le_of_ble_eq_true rfl⟩
noncomputable def fJ12_max (a1 : Int32) (a2 : Int32) (h : PH) : Option (Int32 × PH) :=
  if a1 < a2 then
    some (a2, h)
  else
    some (a1, h)
set_option maxHeartbeats 1000000 in
theorem kJ12_max {l : Launch} {D : PD} {A : Nat → Prop} {cap : Nat × Nat} {a1 : Int32} {a2 : Int32} {h h' : PH} {r : Int32} (hf : fJ12_max a1 a2 h = some (r, h')) : CMet l D A cap yJ12_max cJ12_max 2 (Option.some Jvm.ClassFile.FieldType.int) 1 [.int a1, .int a2] h h' (some (.int r)) := by
  unfold fJ12_max at hf
  refine p_head (own := RJ12) (ini := false) pnM_max rfl (fun q => by cases q) (Nat.le_of_ble_eq_true rfl) (fun m Z cx sx H0 ls X hM hl => ?_)
  have G := X.g
  have hl : lv_has ls 2 [(0, .int a1), (1, .int a2)] := hl
  refine g_iload_n G dJ12_max_0 rfl (lv_at hl 0 rfl) ?_
  refine g_iload_n G dJ12_max_1 rfl (lv_at hl 1 rfl) ?_
  refine g_icmp_lt (tgt := 9) G dJ12_max_2 rfl (fun c1 => ?_) (fun c1 => ?_)
  · have hf := it_pos c1 hf
    refine g_iload_n G dJ12_max_9 rfl (lv_at hl 1 rfl) ?_
    exact p_iret X hM hf dJ12_max_10
  · have hf := it_neg c1 hf
    refine g_iload_n G dJ12_max_5 rfl (lv_at hl 0 rfl) ?_
    refine g_goto (tgt := 10) G dJ12_max_6 rfl ?_
    exact p_iret X hM hf dJ12_max_10
theorem pcy_J12_min : pcY yJ12_min cJ12_min 2 (Option.some Jvm.ClassFile.FieldType.int) 2 := ⟨q878, q165, ⟨by decide +kernel, by decide +kernel, by decide +kernel⟩, Nat.le_of_ble_eq_true rfl⟩
noncomputable def fJ12_min (a1 : Int32) (a2 : Int32) (h : PH) : Option (Int32 × PH) :=
  if a2 < a1 then
    some (a2, h)
  else
    some (a1, h)
set_option maxHeartbeats 1000000 in
theorem kJ12_min {l : Launch} {D : PD} {A : Nat → Prop} {cap : Nat × Nat} {a1 : Int32} {a2 : Int32} {h h' : PH} {r : Int32} (hf : fJ12_min a1 a2 h = some (r, h')) : CMet l D A cap yJ12_min cJ12_min 2 (Option.some Jvm.ClassFile.FieldType.int) 1 [.int a1, .int a2] h h' (some (.int r)) := by
  unfold fJ12_min at hf
  refine p_head (own := RJ12) (ini := false) pnM_min rfl (fun q => by cases q) (Nat.le_of_ble_eq_true rfl) (fun m Z cx sx H0 ls X hM hl => ?_)
  have G := X.g
  have hl : lv_has ls 2 [(0, .int a1), (1, .int a2)] := hl
  refine g_iload_n G dJ12_min_0 rfl (lv_at hl 0 rfl) ?_
  refine g_iload_n G dJ12_min_1 rfl (lv_at hl 1 rfl) ?_
  refine g_icmp_gt (tgt := 9) G dJ12_min_2 rfl (fun c1 => ?_) (fun c1 => ?_)
  · have hf := it_pos c1 hf
    refine g_iload_n G dJ12_min_9 rfl (lv_at hl 1 rfl) ?_
    exact p_iret X hM hf dJ12_min_10
  · have hf := it_neg c1 hf
    refine g_iload_n G dJ12_min_5 rfl (lv_at hl 0 rfl) ?_
    refine g_goto (tgt := 10) G dJ12_min_6 rfl ?_
    exact p_iret X hM hf dJ12_min_10
theorem pcy_J12_floorDiv : pcY yJ12_floorDiv cJ12_floorDiv 6 (Option.some Jvm.ClassFile.FieldType.long) 2 := ⟨q1403, q165, ⟨by decide +kernel, by decide +kernel, by decide +kernel⟩, Nat.le_of_ble_eq_true rfl⟩
noncomputable def fJ12_floorDiv (a1 : Int64) (a2 : Int64) (h : PH) : Option (Int64 × PH) :=
  ck (!decide (a2 = 0)) <|
  if 0 ≤ (a1 ^^^ a2) then
    some ((a1 / a2), h)
  else
    if ((a1 / a2) * a2) = a1 then
      some ((a1 / a2), h)
    else
      some (((a1 / a2) - 1), h)
set_option maxHeartbeats 1000000 in
theorem kJ12_floorDiv {l : Launch} {D : PD} {A : Nat → Prop} {cap : Nat × Nat} {a1 : Int64} {a2 : Int64} {h h' : PH} {r : Int64} (hf : fJ12_floorDiv a1 a2 h = some (r, h')) : CMet l D A cap yJ12_floorDiv cJ12_floorDiv 6 (Option.some Jvm.ClassFile.FieldType.long) 1 [.long a1, .long a2] h h' (some (.long r)) := by
  unfold fJ12_floorDiv at hf
  refine p_head (own := RJ12) (ini := false) pnM_floorDiv rfl (fun q => by cases q) (Nat.le_of_ble_eq_true rfl) (fun m Z cx sx H0 ls X hM hl => ?_)
  have G := X.g
  have hl : lv_has ls 6 [(0, .long a1), (2, .long a2)] := hl
  refine g_lload_n G dJ12_floorDiv_0 rfl (lv_at hl 0 rfl) ?_
  refine g_lload_n G dJ12_floorDiv_1 rfl (lv_at hl 1 rfl) ?_
  obtain ⟨b1, hf⟩ := ck_open hf
  refine g_ldiv G dJ12_floorDiv_2 (by simpa using b1) ?_
  refine g_lstore (lv' := [(4, .long (a1 / a2)), (0, .long a1), (2, .long a2)]) G dJ12_floorDiv_3 hl (Nat.le_of_ble_eq_true rfl) rfl (fun ls hl => ?_)
  refine g_lload_n G dJ12_floorDiv_5 rfl (lv_at hl 1 rfl) ?_
  refine g_lload_n G dJ12_floorDiv_6 rfl (lv_at hl 2 rfl) ?_
  refine g_lxor G dJ12_floorDiv_7 ?_
  refine g_lconst (v := 0) G dJ12_floorDiv_8 rfl ?_
  refine g_lc_ge (tgt := 27) G dJ12_floorDiv_9 dJ12_floorDiv_10 rfl (fun c1 => ?_) (fun c1 => ?_)
  · have hf := it_pos c1 hf
    refine g_lload G dJ12_floorDiv_27 (lv_at hl 0 rfl) ?_
    exact p_lret X hM hf dJ12_floorDiv_29
  · have hf := it_neg c1 hf
    refine g_lload G dJ12_floorDiv_13 (lv_at hl 0 rfl) ?_
    refine g_lload_n G dJ12_floorDiv_15 rfl (lv_at hl 2 rfl) ?_
    refine g_lmul G dJ12_floorDiv_16 ?_
    refine g_lload_n G dJ12_floorDiv_17 rfl (lv_at hl 1 rfl) ?_
    refine g_lc_eq (tgt := 27) G dJ12_floorDiv_18 dJ12_floorDiv_19 rfl (fun c2 => ?_) (fun c2 => ?_)
    · have hf := it_pos c2 hf
      refine g_lload G dJ12_floorDiv_27 (lv_at hl 0 rfl) ?_
      exact p_lret X hM hf dJ12_floorDiv_29
    · have hf := it_neg c2 hf
      refine g_lload G dJ12_floorDiv_22 (lv_at hl 0 rfl) ?_
      refine g_lconst (v := 1) G dJ12_floorDiv_24 rfl ?_
      refine g_lsub G dJ12_floorDiv_25 ?_
      exact p_lret X hM hf dJ12_floorDiv_26
theorem pcy_X0_is : pcY yX0_is cX0_is 3 (Option.some Jvm.ClassFile.FieldType.boolean) 3 := ⟨q795, q145, ⟨by decide +kernel, by decide +kernel, by decide +kernel⟩, Nat.le_of_ble_eq_true rfl⟩
noncomputable def fX0_is (a1 : Int32) (a2 : Int32) (a3 : Int32) (h : PH) : Option (Bool × PH) :=
  jn (fun (h1 : PH) =>
    some (false, h1)) fun j14 =>
  if a1 < a2 then
    j14 h
  else
    if a3 < a1 then
      j14 h
    else
      some (true, h)
set_option maxHeartbeats 1000000 in
theorem kX0_is {l : Launch} {D : PD} {A : Nat → Prop} {cap : Nat × Nat} {a1 : Int32} {a2 : Int32} {a3 : Int32} {h h' : PH} {r : Bool} (hf : fX0_is a1 a2 a3 h = some (r, h')) : CMet l D A cap yX0_is cX0_is 3 (Option.some Jvm.ClassFile.FieldType.boolean) 1 [.int a1, .int a2, .int a3] h h' (some (.int (bI r))) := by
  unfold fX0_is at hf
  refine p_head (own := RX0) (ini := false) (pn_X0 rfl) rfl (fun q => by cases q) (Nat.le_of_ble_eq_true rfl) (fun m Z cx sx H0 ls X hM hl => ?_)
  have G := X.g
  have hl : lv_has ls 3 [(0, .int a1), (1, .int a2), (2, .int a3)] := hl
  refine g_iload_n G dX0_is_0 rfl (lv_at hl 0 rfl) ?_
  refine g_iload_n G dX0_is_1 rfl (lv_at hl 1 rfl) ?_
  obtain ⟨j14, ej14, hf⟩ := jn_open hf
  have J14 : ∀ (h1 : PH) (H : Heap) (locs : List Loc), j14 h1 = some (r, h') → PI D A cap H0 h1 H locs → ∀ ls : Array Slot, lv_has ls 3 [] → Z H locs (cx H) (sx H) (F0 m 14 ls []) := by
    intro h1 H locs hf hM ls hl
    rw [ej14] at hf
    refine g_iconst (v := 0) G dX0_is_14 rfl ?_
    exact p_zret X hM hf dX0_is_15
  refine g_icmp_lt (tgt := 14) G dX0_is_2 rfl (fun c1 => ?_) (fun c1 => ?_)
  · have hf := it_pos c1 hf
    exact J14 _ _ _ hf hM ls (lv_sub hl [] rfl)
  · have hf := it_neg c1 hf
    refine g_iload_n G dX0_is_5 rfl (lv_at hl 0 rfl) ?_
    refine g_iload_n G dX0_is_6 rfl (lv_at hl 2 rfl) ?_
    refine g_icmp_gt (tgt := 14) G dX0_is_7 rfl (fun c2 => ?_) (fun c2 => ?_)
    · have hf := it_pos c2 hf
      exact J14 _ _ _ hf hM ls (lv_sub hl [] rfl)
    · have hf := it_neg c2 hf
      refine g_iconst (v := 1) G dX0_is_10 rfl ?_
      refine g_goto (tgt := 15) G dX0_is_11 rfl ?_
      exact p_zret X hM hf dX0_is_15
theorem pcy_X0_has : pcY yX0_has cX0_has 2 (Option.some Jvm.ClassFile.FieldType.boolean) 2 := ⟨q915, q145, ⟨by decide +kernel, by decide +kernel, by decide +kernel⟩, Nat.le_of_ble_eq_true rfl⟩
noncomputable def fX0_has (a1 : Int32) (a2 : Int32) (h : PH) : Option (Bool × PH) :=
  if ((a1 >>> (a2 &&& 31)) &&& 1) = (1 : Int32) then
    some (true, h)
  else
    some (false, h)
set_option maxHeartbeats 1000000 in
theorem kX0_has {l : Launch} {D : PD} {A : Nat → Prop} {cap : Nat × Nat} {a1 : Int32} {a2 : Int32} {h h' : PH} {r : Bool} (hf : fX0_has a1 a2 h = some (r, h')) : CMet l D A cap yX0_has cX0_has 2 (Option.some Jvm.ClassFile.FieldType.boolean) 1 [.int a1, .int a2] h h' (some (.int (bI r))) := by
  unfold fX0_has at hf
  refine p_head (own := RX0) (ini := false) (pn_X0 rfl) rfl (fun q => by cases q) (Nat.le_of_ble_eq_true rfl) (fun m Z cx sx H0 ls X hM hl => ?_)
  have G := X.g
  have hl : lv_has ls 2 [(0, .int a1), (1, .int a2)] := hl
  refine g_iload_n G dX0_has_0 rfl (lv_at hl 0 rfl) ?_
  refine g_iload_n G dX0_has_1 rfl (lv_at hl 1 rfl) ?_
  refine g_ishr G dX0_has_2 ?_
  refine g_iconst (v := 1) G dX0_has_3 rfl ?_
  refine g_iand G dX0_has_4 ?_
  refine g_iconst (v := 1) G dX0_has_5 rfl ?_
  refine g_icmp_ne (tgt := 13) G dX0_has_6 rfl (fun c1 => ?_) (fun c1 => ?_)
  · have hf := it_neg c1 hf
    refine g_iconst (v := 0) G dX0_has_13 rfl ?_
    exact p_zret X hM hf dX0_has_14
  · have hf := it_pos c1 hf
    refine g_iconst (v := 1) G dX0_has_9 rfl ?_
    refine g_goto (tgt := 14) G dX0_has_10 rfl ?_
    exact p_zret X hM hf dX0_has_14
theorem pcy_X0_held : pcY yX0_held cX0_held 2 (Option.some Jvm.ClassFile.FieldType.long) 1 := ⟨q1357, q145, ⟨by decide +kernel, by decide +kernel, by decide +kernel⟩, Nat.le_of_ble_eq_true rfl⟩
noncomputable def fX0_held (a1 : Int64) (h : PH) : Option (Int64 × PH) :=
  bnd (fJ12_min_2 1000000 a1 h) fun r1 h1 =>
  bnd (fJ12_max_2 ((-1000000)) r1 h1) fun r2 h2 =>
  some (r2, h2)
set_option maxHeartbeats 1000000 in
theorem kX0_held {l : Launch} {D : PD} {A : Nat → Prop} {cap : Nat × Nat} {a1 : Int64} {h h' : PH} {r : Int64} (hf : fX0_held a1 h = some (r, h')) : CMet l D A cap yX0_held cX0_held 2 (Option.some Jvm.ClassFile.FieldType.long) 2 [.long a1] h h' (some (.long r)) := by
  unfold fX0_held at hf
  refine p_head (own := RX0) (ini := false) (pn_X0 rfl) rfl (fun q => by cases q) (Nat.le_of_ble_eq_true rfl) (fun m Z cx sx H0 ls X hM hl => ?_)
  have G := X.g
  have hl : lv_has ls 2 [(0, .long a1)] := hl
  refine g_ldc2 G q1358 dX0_held_0 ?_
  refine g_ldc2 G q1359 dX0_held_3 ?_
  refine g_lload_n G dX0_held_6 rfl (lv_at hl 0 rfl) ?_
  obtain ⟨r1, h1, g1, hf⟩ := bnd_open hf
  refine p_callS_r (As := [.long 1000000, .long a1]) (rest := [.long ((-1000000))]) X hM hl pcy_J12_min_2 q1360 q1361 (kJ12_min_2 g1) rfl (Nat.le_of_ble_eq_true rfl) (Nat.le_of_ble_eq_true rfl) rfl dX0_held_7 (fun H locs hM => ?_)
  obtain ⟨r2, h2, g2, hf⟩ := bnd_open hf
  refine p_callS_r (As := [.long ((-1000000)), .long r1]) (rest := []) X hM hl pcy_J12_max_2 q1363 q1364 (kJ12_max_2 g2) rfl (Nat.le_of_ble_eq_true rfl) (Nat.le_of_ble_eq_true rfl) rfl dX0_held_10 (fun H locs hM => ?_)
  exact p_lret X hM hf dX0_held_13
theorem pcy_X0_isLetter : pcY yX0_isLetter cX0_isLetter 1 (Option.some Jvm.ClassFile.FieldType.boolean) 1 := ⟨q565, q145, ⟨by decide +kernel, by decide +kernel, by decide +kernel⟩, Nat.le_of_ble_eq_true rfl⟩
noncomputable def fX0_isLetter (a1 : Int32) (h : PH) : Option (Bool × PH) :=
  jn (fun (h1 : PH) =>
    some (false, h1)) fun j16 =>
  if a1 < (97 : Int32) then
    j16 h
  else
    if (122 : Int32) < a1 then
      j16 h
    else
      some (true, h)
set_option maxHeartbeats 1000000 in
theorem kX0_isLetter {l : Launch} {D : PD} {A : Nat → Prop} {cap : Nat × Nat} {a1 : Int32} {h h' : PH} {r : Bool} (hf : fX0_isLetter a1 h = some (r, h')) : CMet l D A cap yX0_isLetter cX0_isLetter 1 (Option.some Jvm.ClassFile.FieldType.boolean) 1 [.int a1] h h' (some (.int (bI r))) := by
  unfold fX0_isLetter at hf
  refine p_head (own := RX0) (ini := false) (pn_X0 rfl) rfl (fun q => by cases q) (Nat.le_of_ble_eq_true rfl) (fun m Z cx sx H0 ls X hM hl => ?_)
  have G := X.g
  have hl : lv_has ls 1 [(0, .int a1)] := hl
  refine g_iload_n G dX0_isLetter_0 rfl (lv_at hl 0 rfl) ?_
  refine g_bipush (v := 97) G dX0_isLetter_1 rfl ?_
  obtain ⟨j16, ej16, hf⟩ := jn_open hf
  have J16 : ∀ (h1 : PH) (H : Heap) (locs : List Loc), j16 h1 = some (r, h') → PI D A cap H0 h1 H locs → ∀ ls : Array Slot, lv_has ls 1 [] → Z H locs (cx H) (sx H) (F0 m 16 ls []) := by
    intro h1 H locs hf hM ls hl
    rw [ej16] at hf
    refine g_iconst (v := 0) G dX0_isLetter_16 rfl ?_
    exact p_zret X hM hf dX0_isLetter_17
  refine g_icmp_lt (tgt := 16) G dX0_isLetter_3 rfl (fun c1 => ?_) (fun c1 => ?_)
  · have hf := it_pos c1 hf
    exact J16 _ _ _ hf hM ls (lv_sub hl [] rfl)
  · have hf := it_neg c1 hf
    refine g_iload_n G dX0_isLetter_6 rfl (lv_at hl 0 rfl) ?_
    refine g_bipush (v := 122) G dX0_isLetter_7 rfl ?_
    refine g_icmp_gt (tgt := 16) G dX0_isLetter_9 rfl (fun c2 => ?_) (fun c2 => ?_)
    · have hf := it_pos c2 hf
      exact J16 _ _ _ hf hM ls (lv_sub hl [] rfl)
    · have hf := it_neg c2 hf
      refine g_iconst (v := 1) G dX0_isLetter_12 rfl ?_
      refine g_goto (tgt := 17) G dX0_isLetter_13 rfl ?_
      exact p_zret X hM hf dX0_isLetter_17
theorem pcy_X0_isDigit : pcY yX0_isDigit cX0_isDigit 1 (Option.some Jvm.ClassFile.FieldType.boolean) 1 := ⟨q572, q145, ⟨by decide +kernel, by decide +kernel, by decide +kernel⟩, Nat.le_of_ble_eq_true rfl⟩
noncomputable def fX0_isDigit (a1 : Int32) (h : PH) : Option (Bool × PH) :=
  jn (fun (h1 : PH) =>
    some (false, h1)) fun j16 =>
  if a1 < (48 : Int32) then
    j16 h
  else
    if (57 : Int32) < a1 then
      j16 h
    else
      some (true, h)
set_option maxHeartbeats 1000000 in
theorem kX0_isDigit {l : Launch} {D : PD} {A : Nat → Prop} {cap : Nat × Nat} {a1 : Int32} {h h' : PH} {r : Bool} (hf : fX0_isDigit a1 h = some (r, h')) : CMet l D A cap yX0_isDigit cX0_isDigit 1 (Option.some Jvm.ClassFile.FieldType.boolean) 1 [.int a1] h h' (some (.int (bI r))) := by
  unfold fX0_isDigit at hf
  refine p_head (own := RX0) (ini := false) (pn_X0 rfl) rfl (fun q => by cases q) (Nat.le_of_ble_eq_true rfl) (fun m Z cx sx H0 ls X hM hl => ?_)
  have G := X.g
  have hl : lv_has ls 1 [(0, .int a1)] := hl
  refine g_iload_n G dX0_isDigit_0 rfl (lv_at hl 0 rfl) ?_
  refine g_bipush (v := 48) G dX0_isDigit_1 rfl ?_
  obtain ⟨j16, ej16, hf⟩ := jn_open hf
  have J16 : ∀ (h1 : PH) (H : Heap) (locs : List Loc), j16 h1 = some (r, h') → PI D A cap H0 h1 H locs → ∀ ls : Array Slot, lv_has ls 1 [] → Z H locs (cx H) (sx H) (F0 m 16 ls []) := by
    intro h1 H locs hf hM ls hl
    rw [ej16] at hf
    refine g_iconst (v := 0) G dX0_isDigit_16 rfl ?_
    exact p_zret X hM hf dX0_isDigit_17
  refine g_icmp_lt (tgt := 16) G dX0_isDigit_3 rfl (fun c1 => ?_) (fun c1 => ?_)
  · have hf := it_pos c1 hf
    exact J16 _ _ _ hf hM ls (lv_sub hl [] rfl)
  · have hf := it_neg c1 hf
    refine g_iload_n G dX0_isDigit_6 rfl (lv_at hl 0 rfl) ?_
    refine g_bipush (v := 57) G dX0_isDigit_7 rfl ?_
    refine g_icmp_gt (tgt := 16) G dX0_isDigit_9 rfl (fun c2 => ?_) (fun c2 => ?_)
    · have hf := it_pos c2 hf
      exact J16 _ _ _ hf hM ls (lv_sub hl [] rfl)
    · have hf := it_neg c2 hf
      refine g_iconst (v := 1) G dX0_isDigit_12 rfl ?_
      refine g_goto (tgt := 17) G dX0_isDigit_13 rfl ?_
      exact p_zret X hM hf dX0_isDigit_17
theorem pcy_X0_refuses : pcY yX0_refuses cX0_refuses 2 (Option.some Jvm.ClassFile.FieldType.int) 1 := ⟨q519, q145, ⟨by decide +kernel, by decide +kernel, by decide +kernel⟩, Nat.le_of_ble_eq_true rfl⟩
noncomputable def fX0_refuses (a0 : Nat) (a1 : Int32) (h : PH) : Option (Int32 × PH) :=
  vA (pF h a0 0 8) fun p1 =>
  ob (pLd h p1 0 a1) fun v1 =>
  bnv (pSt h p1 0 a1 (v1 + 1)) fun h1 =>
  some ((-1), h1)
set_option maxHeartbeats 1000000 in
theorem kX0_refuses {l : Launch} {D : PD} {A : Nat → Prop} {cap : Nat × Nat} {a0 : Nat} {a1 : Int32} {h h' : PH} {r : Int32} (hf : fX0_refuses a0 a1 h = some (r, h')) : CMet l D A cap yX0_refuses cX0_refuses 2 (Option.some Jvm.ClassFile.FieldType.int) 1 [.ref a0, .int a1] h h' (some (.int r)) := by
  unfold fX0_refuses at hf
  refine p_head (own := RX0) (ini := false) (pn_X0 rfl) rfl (fun q => by cases q) (Nat.le_of_ble_eq_true rfl) (fun m Z cx sx H0 ls X hM hl => ?_)
  have G := X.g
  have hl : lv_has ls 2 [(0, .ref a0), (1, .int a1)] := hl
  refine g_aload_n G dX0_refuses_0 rfl (lv_at hl 0 rfl) ?_
  obtain ⟨p1, g1, hf⟩ := vA_open hf
  refine p_get (k := 8) X hM pc_0 (by decide) q456 rfl g1 dX0_refuses_1 ?_
  refine g_iload_n G dX0_refuses_4 rfl (lv_at hl 1 rfl) ?_
  refine g_dup2_11 G dX0_refuses_5 rfl rfl ?_
  obtain ⟨v1, g2, hf⟩ := ob_open hf
  refine p_iald X hM g2 dX0_refuses_6 ?_
  refine g_iconst (v := 1) G dX0_refuses_7 rfl ?_
  refine g_iadd G dX0_refuses_8 ?_
  obtain ⟨h1, g3, hf⟩ := bnv_open hf
  refine p_iast X hM g3 dX0_refuses_9 (fun H locs hM => ?_)
  refine g_iconst (v := (-1)) G dX0_refuses_10 rfl ?_
  exact p_iret X hM hf dX0_refuses_11
theorem pcy_X0_put : pcY yX0_put cX0_put 3 none 1 := ⟨q523, q145, ⟨by decide +kernel, by decide +kernel, by decide +kernel⟩, Nat.le_of_ble_eq_true rfl⟩
noncomputable def fX0_put_L3 (a0 : Nat) (a1 : Int32) (s3 : Int32 → PH → Option (PH)) (x1 : Int32) (h1 : PH) : Option (PH) :=
  if x1 < 0 then
    some h1
  else
    vA (pF h1 a0 0 1) fun p1 =>
    vI (pF h1 a0 0 2) fun v1 =>
    bnv (pPut h1 a0 0 2 (.int (v1 + 1))) fun h2 =>
    bnv (pSt h2 p1 2 v1 (vp_nar .byte ((Int32.toInt8 (a1 >>> (x1 &&& 31))).toInt32))) fun h3 =>
    s3 (x1 + (-8)) h3
noncomputable def fX0_put (a0 : Nat) (a1 : Int32) (h : PH) : Option (PH) :=
  fx (fX0_put_L3 a0 a1) (fun _ _ => none) FU 24 h
set_option maxHeartbeats 1000000 in
theorem kX0_put {l : Launch} {D : PD} {A : Nat → Prop} {cap : Nat × Nat} {a0 : Nat} {a1 : Int32} {h h' : PH} (hf : fX0_put a0 a1 h = some h') : CMet l D A cap yX0_put cX0_put 3 none 1 [.ref a0, .int a1] h h' (none) := by
  unfold fX0_put at hf
  refine p_head (own := RX0) (ini := false) (pn_X0 rfl) rfl (fun q => by cases q) (Nat.le_of_ble_eq_true rfl) (fun m Z cx sx H0 ls X hM hl => ?_)
  have G := X.g
  have hl : lv_has ls 3 [(0, .ref a0), (1, .int a1)] := hl
  refine g_bipush (v := 24) G dX0_put_0 rfl ?_
  refine g_istore_n (i := 2) (lv' := [(2, .int 24), (0, .ref a0), (1, .int a1)]) G dX0_put_2 rfl hl (Nat.le_of_ble_eq_true rfl) rfl (fun ls hl => ?_)
  have L3 : ∀ (n : Nat) (x1 : Int32) (h1 : PH) (H : Heap) (locs : List Loc), fx (fX0_put_L3 a0 a1) (fun _ _ => none) n x1 h1 = some h' → PI D A cap H0 h1 H locs → ∀ ls : Array Slot, lv_has ls 3 [(0, .ref a0), (1, .int a1), (2, .int x1)] → Z H locs (cx H) (sx H) (F0 m 3 ls []) := by
    intro n
    induction n with
    | zero => intro x1 h1 H locs hf; exact absurd hf (by intro q; cases q)
    | succ n ih3 =>
      intro x1 h1 H locs hf hM ls hl
      rw [fx_s] at hf
      generalize fx (fX0_put_L3 a0 a1) (fun _ _ => none) n = s3 at hf ih3
      unfold fX0_put_L3 at hf
      refine g_iload_n G dX0_put_3 rfl (lv_at hl 2 rfl) ?_
      refine g_if_lt (tgt := 33) G dX0_put_4 rfl (fun c1 => ?_) (fun c1 => ?_)
      · have hf := it_pos c1 hf
        exact p_vret X hM hf dX0_put_33
      · have hf := it_neg c1 hf
        refine g_aload_n G dX0_put_7 rfl (lv_at hl 0 rfl) ?_
        obtain ⟨p1, g1, hf⟩ := vA_open hf
        refine p_get (k := 1) X hM pc_0 (by decide) q448 rfl g1 dX0_put_8 ?_
        refine g_aload_n G dX0_put_11 rfl (lv_at hl 0 rfl) ?_
        refine g_dup G dX0_put_12 rfl ?_
        obtain ⟨v1, g2, hf⟩ := vI_open hf
        refine p_get (k := 2) X hM pc_0 (by decide) q449 rfl g2 dX0_put_13 ?_
        refine g_dup_x1 G dX0_put_16 rfl rfl ?_
        refine g_iconst (v := 1) G dX0_put_17 rfl ?_
        refine g_iadd G dX0_put_18 ?_
        obtain ⟨h2, g3, hf⟩ := bnv_open hf
        refine p_put (k := 2) X hM pc_0 (by decide) q449 rfl rfl rfl rfl g3 dX0_put_19 (fun H locs hM => ?_)
        refine g_iload_n G dX0_put_22 rfl (lv_at hl 1 rfl) ?_
        refine g_iload_n G dX0_put_23 rfl (lv_at hl 2 rfl) ?_
        refine g_ishr G dX0_put_24 ?_
        refine g_i2b (v := (Int32.toInt8 (a1 >>> (x1 &&& 31))).toInt32) G dX0_put_25 rfl ?_
        obtain ⟨h3, g4, hf⟩ := bnv_open hf
        refine p_bast X hM g4 dX0_put_26 (fun H locs hM => ?_)
        refine g_iinc (v := x1 + (-8)) (lv' := [(2, .int (x1 + (-8))), (0, .ref a0), (1, .int a1)]) G dX0_put_27 hl (k := 2) rfl rfl (Nat.le_of_ble_eq_true rfl) rfl (fun ls hl => ?_)
        refine g_goto (tgt := 3) G dX0_put_30 rfl ?_
        exact ih3 _ _ _ _ hf hM ls (lv_sub hl [1, 2, 0] rfl)
  exact L3 FU _ _ _ _ hf hM ls (lv_sub hl [1, 2, 0] rfl)
theorem pcy_X0_feed : pcY yX0_feed cX0_feed 6 (Option.some Jvm.ClassFile.FieldType.int) 5 := ⟨q515, q145, ⟨by decide +kernel, by decide +kernel, by decide +kernel⟩, Nat.le_of_ble_eq_true rfl⟩
noncomputable def fX0_feed (a0 : Nat) (a1 : Int32) (a2 : Int32) (a3 : Int32) (a4 : Int32) (a5 : Int32) (h : PH) : Option (Int32 × PH) :=
  vI (pF h a0 0 2) fun v1 =>
  if (v1 + 20) ≤ (1600 : Int32) then
    ckc (pCls h a0) 0 <|
    bnv (fX0_put a0 a1 h) fun h1 =>
    ckc (pCls h1 a0) 0 <|
    bnv (fX0_put a0 a2 h1) fun h2 =>
    ckc (pCls h2 a0) 0 <|
    bnv (fX0_put a0 a3 h2) fun h3 =>
    ckc (pCls h3 a0) 0 <|
    bnv (fX0_put a0 a4 h3) fun h4 =>
    ckc (pCls h4 a0) 0 <|
    bnv (fX0_put a0 a5 h4) fun h5 =>
    vI (pF h5 a0 0 2) fun v2 =>
    some (v2, h5)
  else
    ckc (pCls h a0) 0 <|
    bnd (fX0_refuses a0 0 h) fun r1 h6 =>
    some (r1, h6)
set_option maxHeartbeats 1000000 in
theorem kX0_feed {l : Launch} {D : PD} {A : Nat → Prop} {cap : Nat × Nat} {a0 : Nat} {a1 : Int32} {a2 : Int32} {a3 : Int32} {a4 : Int32} {a5 : Int32} {h h' : PH} {r : Int32} (hf : fX0_feed a0 a1 a2 a3 a4 a5 h = some (r, h')) : CMet l D A cap yX0_feed cX0_feed 6 (Option.some Jvm.ClassFile.FieldType.int) 2 [.ref a0, .int a1, .int a2, .int a3, .int a4, .int a5] h h' (some (.int r)) := by
  unfold fX0_feed at hf
  refine p_head (own := RX0) (ini := false) (pn_X0 rfl) rfl (fun q => by cases q) (Nat.le_of_ble_eq_true rfl) (fun m Z cx sx H0 ls X hM hl => ?_)
  have G := X.g
  have hl : lv_has ls 6 [(0, .ref a0), (1, .int a1), (2, .int a2), (3, .int a3), (4, .int a4), (5, .int a5)] := hl
  refine g_aload_n G dX0_feed_0 rfl (lv_at hl 0 rfl) ?_
  obtain ⟨v1, g1, hf⟩ := vI_open hf
  refine p_get (k := 2) X hM pc_0 (by decide) q449 rfl g1 dX0_feed_1 ?_
  refine g_bipush (v := 20) G dX0_feed_4 rfl ?_
  refine g_iadd G dX0_feed_6 ?_
  refine g_sipush (v := 1600) G dX0_feed_7 rfl ?_
  refine g_icmp_le (tgt := 19) G dX0_feed_10 rfl (fun c1 => ?_) (fun c1 => ?_)
  · have hf := it_pos c1 hf
    refine g_aload_n G dX0_feed_19 rfl (lv_at hl 0 rfl) ?_
    refine g_iload_n G dX0_feed_20 rfl (lv_at hl 1 rfl) ?_
    obtain ⟨b1, hf⟩ := ckc_open hf
    obtain ⟨h1, g2, hf⟩ := bnv_open hf
    refine p_callV_v (ci := 0) (As := [.int a1]) (rest := []) X hM hl rfl b1 pcy_X0_put q520 q522 qs2 (kX0_put g2) rfl (Nat.le_of_ble_eq_true rfl) (Nat.le_of_ble_eq_true rfl) rfl dX0_feed_21 (fun H locs hM => ?_)
    refine g_aload_n G dX0_feed_24 rfl (lv_at hl 0 rfl) ?_
    refine g_iload_n G dX0_feed_25 rfl (lv_at hl 2 rfl) ?_
    obtain ⟨b2, hf⟩ := ckc_open hf
    obtain ⟨h2, g3, hf⟩ := bnv_open hf
    refine p_callV_v (ci := 0) (As := [.int a2]) (rest := []) X hM hl rfl b2 pcy_X0_put q520 q522 qs2 (kX0_put g3) rfl (Nat.le_of_ble_eq_true rfl) (Nat.le_of_ble_eq_true rfl) rfl dX0_feed_26 (fun H locs hM => ?_)
    refine g_aload_n G dX0_feed_29 rfl (lv_at hl 0 rfl) ?_
    refine g_iload_n G dX0_feed_30 rfl (lv_at hl 3 rfl) ?_
    obtain ⟨b3, hf⟩ := ckc_open hf
    obtain ⟨h3, g4, hf⟩ := bnv_open hf
    refine p_callV_v (ci := 0) (As := [.int a3]) (rest := []) X hM hl rfl b3 pcy_X0_put q520 q522 qs2 (kX0_put g4) rfl (Nat.le_of_ble_eq_true rfl) (Nat.le_of_ble_eq_true rfl) rfl dX0_feed_31 (fun H locs hM => ?_)
    refine g_aload_n G dX0_feed_34 rfl (lv_at hl 0 rfl) ?_
    refine g_iload G dX0_feed_35 (lv_at hl 4 rfl) ?_
    obtain ⟨b4, hf⟩ := ckc_open hf
    obtain ⟨h4, g5, hf⟩ := bnv_open hf
    refine p_callV_v (ci := 0) (As := [.int a4]) (rest := []) X hM hl rfl b4 pcy_X0_put q520 q522 qs2 (kX0_put g5) rfl (Nat.le_of_ble_eq_true rfl) (Nat.le_of_ble_eq_true rfl) rfl dX0_feed_37 (fun H locs hM => ?_)
    refine g_aload_n G dX0_feed_40 rfl (lv_at hl 0 rfl) ?_
    refine g_iload G dX0_feed_41 (lv_at hl 5 rfl) ?_
    obtain ⟨b5, hf⟩ := ckc_open hf
    obtain ⟨h5, g6, hf⟩ := bnv_open hf
    refine p_callV_v (ci := 0) (As := [.int a5]) (rest := []) X hM hl rfl b5 pcy_X0_put q520 q522 qs2 (kX0_put g6) rfl (Nat.le_of_ble_eq_true rfl) (Nat.le_of_ble_eq_true rfl) rfl dX0_feed_43 (fun H locs hM => ?_)
    refine g_aload_n G dX0_feed_46 rfl (lv_at hl 0 rfl) ?_
    obtain ⟨v2, g7, hf⟩ := vI_open hf
    refine p_get (k := 2) X hM pc_0 (by decide) q449 rfl g7 dX0_feed_47 ?_
    exact p_iret X hM hf dX0_feed_50
  · have hf := it_neg c1 hf
    refine g_aload_n G dX0_feed_13 rfl (lv_at hl 0 rfl) ?_
    refine g_iconst (v := 0) G dX0_feed_14 rfl ?_
    obtain ⟨b6, hf⟩ := ckc_open hf
    obtain ⟨r1, h6, g8, hf⟩ := bnd_open hf
    refine p_callV_r (ci := 0) (As := [.int 0]) (rest := []) X hM hl rfl b6 pcy_X0_refuses q516 q518 qs1 (kX0_refuses g8) rfl (Nat.le_of_ble_eq_true rfl) (Nat.le_of_ble_eq_true rfl) rfl dX0_feed_15 (fun H locs hM => ?_)
    exact p_iret X hM hf dX0_feed_18
theorem pcy_X0_end : pcY yX0_end cX0_end 2 (Option.some Jvm.ClassFile.FieldType.boolean) 1 := ⟨q527, q145, ⟨by decide +kernel, by decide +kernel, by decide +kernel⟩, Nat.le_of_ble_eq_true rfl⟩
noncomputable def fX0_end (a0 : Nat) (a1 : Int32) (h : PH) : Option (Bool × PH) :=
  jn (fun (h1 : PH) =>
    ckc (pCls h1 a0) 0 <|
    bnd (fX0_refuses a0 0 h1) fun r1 h2 =>
    if r1 < 0 then
      some (false, h2)
    else
      some (true, h2)) fun j12 =>
  if a1 < 0 then
    j12 h
  else
    vI (pF h a0 0 2) fun v1 =>
    if a1 ≤ v1 then
      bnv (pPut h a0 0 2 (.int a1)) fun h3 =>
      some (true, h3)
    else
      j12 h
set_option maxHeartbeats 1000000 in
theorem kX0_end {l : Launch} {D : PD} {A : Nat → Prop} {cap : Nat × Nat} {a0 : Nat} {a1 : Int32} {h h' : PH} {r : Bool} (hf : fX0_end a0 a1 h = some (r, h')) : CMet l D A cap yX0_end cX0_end 2 (Option.some Jvm.ClassFile.FieldType.boolean) 2 [.ref a0, .int a1] h h' (some (.int (bI r))) := by
  unfold fX0_end at hf
  refine p_head (own := RX0) (ini := false) (pn_X0 rfl) rfl (fun q => by cases q) (Nat.le_of_ble_eq_true rfl) (fun m Z cx sx H0 ls X hM hl => ?_)
  have G := X.g
  have hl : lv_has ls 2 [(0, .ref a0), (1, .int a1)] := hl
  refine g_iload_n G dX0_end_0 rfl (lv_at hl 1 rfl) ?_
  obtain ⟨j12, ej12, hf⟩ := jn_open hf
  have J12 : ∀ (h1 : PH) (H : Heap) (locs : List Loc), j12 h1 = some (r, h') → PI D A cap H0 h1 H locs → ∀ ls : Array Slot, lv_has ls 2 [(0, .ref a0)] → Z H locs (cx H) (sx H) (F0 m 12 ls []) := by
    intro h1 H locs hf hM ls hl
    rw [ej12] at hf
    refine g_aload_n G dX0_end_12 rfl (lv_at hl 0 rfl) ?_
    refine g_iconst (v := 0) G dX0_end_13 rfl ?_
    obtain ⟨b1, hf⟩ := ckc_open hf
    obtain ⟨r1, h2, g1, hf⟩ := bnd_open hf
    refine p_callV_r (ci := 0) (As := [.int 0]) (rest := []) X hM hl rfl b1 pcy_X0_refuses q516 q518 qs1 (kX0_refuses g1) rfl (Nat.le_of_ble_eq_true rfl) (Nat.le_of_ble_eq_true rfl) rfl dX0_end_14 (fun H locs hM => ?_)
    refine g_if_lt (tgt := 24) G dX0_end_17 rfl (fun c1 => ?_) (fun c1 => ?_)
    · have hf := it_pos c1 hf
      refine g_iconst (v := 0) G dX0_end_24 rfl ?_
      exact p_zret X hM hf dX0_end_25
    · have hf := it_neg c1 hf
      refine g_iconst (v := 1) G dX0_end_20 rfl ?_
      refine g_goto (tgt := 25) G dX0_end_21 rfl ?_
      exact p_zret X hM hf dX0_end_25
  refine g_if_lt (tgt := 12) G dX0_end_1 rfl (fun c2 => ?_) (fun c2 => ?_)
  · have hf := it_pos c2 hf
    exact J12 _ _ _ hf hM ls (lv_sub hl [0] rfl)
  · have hf := it_neg c2 hf
    refine g_iload_n G dX0_end_4 rfl (lv_at hl 1 rfl) ?_
    refine g_aload_n G dX0_end_5 rfl (lv_at hl 0 rfl) ?_
    obtain ⟨v1, g2, hf⟩ := vI_open hf
    refine p_get (k := 2) X hM pc_0 (by decide) q449 rfl g2 dX0_end_6 ?_
    refine g_icmp_le (tgt := 26) G dX0_end_9 rfl (fun c3 => ?_) (fun c3 => ?_)
    · have hf := it_pos c3 hf
      refine g_aload_n G dX0_end_26 rfl (lv_at hl 0 rfl) ?_
      refine g_iload_n G dX0_end_27 rfl (lv_at hl 1 rfl) ?_
      obtain ⟨h3, g3, hf⟩ := bnv_open hf
      refine p_put (k := 2) X hM pc_0 (by decide) q449 rfl rfl rfl rfl g3 dX0_end_28 (fun H locs hM => ?_)
      refine g_iconst (v := 1) G dX0_end_31 rfl ?_
      exact p_zret X hM hf dX0_end_32
    · have hf := it_neg c3 hf
      exact J12 _ _ _ hf hM ls (lv_sub hl [0] rfl)
theorem pcy_X0_taken : pcY yX0_taken cX0_taken 2 (Option.some Jvm.ClassFile.FieldType.int) 0 := ⟨q536, q145, ⟨by decide +kernel, by decide +kernel, by decide +kernel⟩, Nat.le_of_ble_eq_true rfl⟩
noncomputable def fX0_taken (a0 : Nat) (h : PH) : Option (Int32 × PH) :=
  vI (pF h a0 0 2) fun v1 =>
  bnv (pPut h a0 0 2 (.int 0)) fun h1 =>
  some (v1, h1)
set_option maxHeartbeats 1000000 in
theorem kX0_taken {l : Launch} {D : PD} {A : Nat → Prop} {cap : Nat × Nat} {a0 : Nat} {h h' : PH} {r : Int32} (hf : fX0_taken a0 h = some (r, h')) : CMet l D A cap yX0_taken cX0_taken 2 (Option.some Jvm.ClassFile.FieldType.int) 1 [.ref a0] h h' (some (.int r)) := by
  unfold fX0_taken at hf
  refine p_head (own := RX0) (ini := false) (pn_X0 rfl) rfl (fun q => by cases q) (Nat.le_of_ble_eq_true rfl) (fun m Z cx sx H0 ls X hM hl => ?_)
  have G := X.g
  have hl : lv_has ls 2 [(0, .ref a0)] := hl
  refine g_aload_n G dX0_taken_0 rfl (lv_at hl 0 rfl) ?_
  obtain ⟨v1, g1, hf⟩ := vI_open hf
  refine p_get (k := 2) X hM pc_0 (by decide) q449 rfl g1 dX0_taken_1 ?_
  refine g_istore_n (i := 1) (lv' := [(1, .int v1), (0, .ref a0)]) G dX0_taken_4 rfl hl (Nat.le_of_ble_eq_true rfl) rfl (fun ls hl => ?_)
  refine g_aload_n G dX0_taken_5 rfl (lv_at hl 1 rfl) ?_
  refine g_iconst (v := 0) G dX0_taken_6 rfl ?_
  obtain ⟨h1, g2, hf⟩ := bnv_open hf
  refine p_put (k := 2) X hM pc_0 (by decide) q449 rfl rfl rfl rfl g2 dX0_taken_7 (fun H locs hM => ?_)
  refine g_iload_n G dX0_taken_10 rfl (lv_at hl 0 rfl) ?_
  exact p_iret X hM hf dX0_taken_11
theorem pcy_X0_fault : pcY yX0_fault cX0_fault 2 (Option.some Jvm.ClassFile.FieldType.int) 1 := ⟨q1218, q145, ⟨by decide +kernel, by decide +kernel, by decide +kernel⟩, Nat.le_of_ble_eq_true rfl⟩
noncomputable def fX0_fault (a0 : Nat) (a1 : Int32) (h : PH) : Option (Int32 × PH) :=
  if a1 = 0 then
    vI (pF h a0 0 3) fun v2 =>
    some (v2, h)
  else
    if a1 = (1 : Int32) then
      vI (pF h a0 0 4) fun v1 =>
      some (v1, h)
    else
      some ((-1), h)
set_option maxHeartbeats 1000000 in
theorem kX0_fault {l : Launch} {D : PD} {A : Nat → Prop} {cap : Nat × Nat} {a0 : Nat} {a1 : Int32} {h h' : PH} {r : Int32} (hf : fX0_fault a0 a1 h = some (r, h')) : CMet l D A cap yX0_fault cX0_fault 2 (Option.some Jvm.ClassFile.FieldType.int) 1 [.ref a0, .int a1] h h' (some (.int r)) := by
  unfold fX0_fault at hf
  refine p_head (own := RX0) (ini := false) (pn_X0 rfl) rfl (fun q => by cases q) (Nat.le_of_ble_eq_true rfl) (fun m Z cx sx H0 ls X hM hl => ?_)
  have G := X.g
  have hl : lv_has ls 2 [(0, .ref a0), (1, .int a1)] := hl
  refine g_iload_n G dX0_fault_0 rfl (lv_at hl 1 rfl) ?_
  refine g_if_ne (tgt := 11) G dX0_fault_1 rfl (fun c1 => ?_) (fun c1 => ?_)
  · have hf := it_neg c1 hf
    refine g_iload_n G dX0_fault_11 rfl (lv_at hl 1 rfl) ?_
    refine g_iconst (v := 1) G dX0_fault_12 rfl ?_
    refine g_icmp_ne (tgt := 23) G dX0_fault_13 rfl (fun c2 => ?_) (fun c2 => ?_)
    · have hf := it_neg c2 hf
      refine g_iconst (v := (-1)) G dX0_fault_23 rfl ?_
      exact p_iret X hM hf dX0_fault_24
    · have hf := it_pos c2 hf
      refine g_aload_n G dX0_fault_16 rfl (lv_at hl 0 rfl) ?_
      obtain ⟨v1, g1, hf⟩ := vI_open hf
      refine p_get (k := 4) X hM pc_0 (by decide) q451 rfl g1 dX0_fault_17 ?_
      refine g_goto (tgt := 24) G dX0_fault_20 rfl ?_
      exact p_iret X hM hf dX0_fault_24
  · have hf := it_pos c1 hf
    refine g_aload_n G dX0_fault_4 rfl (lv_at hl 0 rfl) ?_
    obtain ⟨v2, g2, hf⟩ := vI_open hf
    refine p_get (k := 3) X hM pc_0 (by decide) q450 rfl g2 dX0_fault_5 ?_
    refine g_goto (tgt := 24) G dX0_fault_8 rfl ?_
    exact p_iret X hM hf dX0_fault_24
theorem pcy_X0_facts : pcY yX0_facts cX0_facts 1 (Option.some Jvm.ClassFile.FieldType.int) 0 := ⟨q1226, q145, ⟨by decide +kernel, by decide +kernel, by decide +kernel⟩, Nat.le_of_ble_eq_true rfl⟩
noncomputable def fX0_facts (a0 : Nat) (h : PH) : Option (Int32 × PH) :=
  vA (pF h a0 0 0) fun p1 =>
  vA (pF h p1 1 4) fun p2 =>
  ckc (pCls h p2) 21 <|
  bnd (fJ2_size p2 h) fun r1 h1 =>
  some (r1, h1)
set_option maxHeartbeats 1000000 in
theorem kX0_facts {l : Launch} {D : PD} {A : Nat → Prop} {cap : Nat × Nat} {a0 : Nat} {h h' : PH} {r : Int32} (hf : fX0_facts a0 h = some (r, h')) : CMet l D A cap yX0_facts cX0_facts 1 (Option.some Jvm.ClassFile.FieldType.int) 2 [.ref a0] h h' (some (.int r)) := by
  unfold fX0_facts at hf
  refine p_head (own := RX0) (ini := false) (pn_X0 rfl) rfl (fun q => by cases q) (Nat.le_of_ble_eq_true rfl) (fun m Z cx sx H0 ls X hM hl => ?_)
  have G := X.g
  have hl : lv_has ls 1 [(0, .ref a0)] := hl
  refine g_aload_n G dX0_facts_0 rfl (lv_at hl 0 rfl) ?_
  obtain ⟨p1, g1, hf⟩ := vA_open hf
  refine p_get (k := 0) X hM pc_0 (by decide) q446 rfl g1 dX0_facts_1 ?_
  obtain ⟨p2, g2, hf⟩ := vA_open hf
  refine p_getN (k := 4) X hM pc_1 (by decide) q240 rfl g2 dX0_facts_4 ?_
  obtain ⟨b1, hf⟩ := ckc_open hf
  obtain ⟨r1, h1, g3, hf⟩ := bnd_open hf
  refine p_callF_r (As := []) (rest := []) X hM hl b1 pcy_J2_size (fun U hK => hK.1.2.2.1.1) ⟨by decide +kernel, by decide +kernel, by decide +kernel⟩ q1211 q727 q725 (kJ2_size g3) rfl (Nat.le_of_ble_eq_true rfl) (Nat.le_of_ble_eq_true rfl) rfl dX0_facts_7 (fun H locs hM => ?_)
  exact p_iret X hM hf dX0_facts_12
theorem pcy_X0_people : pcY yX0_people cX0_people 1 (Option.some Jvm.ClassFile.FieldType.int) 0 := ⟨q1209, q145, ⟨by decide +kernel, by decide +kernel, by decide +kernel⟩, Nat.le_of_ble_eq_true rfl⟩
noncomputable def fX0_people (a0 : Nat) (h : PH) : Option (Int32 × PH) :=
  vA (pF h a0 0 0) fun p1 =>
  vA (pF h p1 1 5) fun p2 =>
  ckc (pCls h p2) 21 <|
  bnd (fJ2_size p2 h) fun r1 h1 =>
  some (r1, h1)
set_option maxHeartbeats 1000000 in
theorem kX0_people {l : Launch} {D : PD} {A : Nat → Prop} {cap : Nat × Nat} {a0 : Nat} {h h' : PH} {r : Int32} (hf : fX0_people a0 h = some (r, h')) : CMet l D A cap yX0_people cX0_people 1 (Option.some Jvm.ClassFile.FieldType.int) 2 [.ref a0] h h' (some (.int r)) := by
  unfold fX0_people at hf
  refine p_head (own := RX0) (ini := false) (pn_X0 rfl) rfl (fun q => by cases q) (Nat.le_of_ble_eq_true rfl) (fun m Z cx sx H0 ls X hM hl => ?_)
  have G := X.g
  have hl : lv_has ls 1 [(0, .ref a0)] := hl
  refine g_aload_n G dX0_people_0 rfl (lv_at hl 0 rfl) ?_
  obtain ⟨p1, g1, hf⟩ := vA_open hf
  refine p_get (k := 0) X hM pc_0 (by decide) q446 rfl g1 dX0_people_1 ?_
  obtain ⟨p2, g2, hf⟩ := vA_open hf
  refine p_getN (k := 5) X hM pc_1 (by decide) q244 rfl g2 dX0_people_4 ?_
  obtain ⟨b1, hf⟩ := ckc_open hf
  obtain ⟨r1, h1, g3, hf⟩ := bnd_open hf
  refine p_callF_r (As := []) (rest := []) X hM hl b1 pcy_J2_size (fun U hK => hK.1.2.2.1.1) ⟨by decide +kernel, by decide +kernel, by decide +kernel⟩ q1211 q727 q725 (kJ2_size g3) rfl (Nat.le_of_ble_eq_true rfl) (Nat.le_of_ble_eq_true rfl) rfl dX0_people_7 (fun H locs hM => ?_)
  exact p_iret X hM hf dX0_people_12
theorem pcy_X0_isFact : pcY yX0_isFact cX0_isFact 2 (Option.some Jvm.ClassFile.FieldType.boolean) 1 := ⟨q1272, q145, ⟨by decide +kernel, by decide +kernel, by decide +kernel⟩, Nat.le_of_ble_eq_true rfl⟩
noncomputable def fX0_isFact (a0 : Nat) (a1 : Int32) (h : PH) : Option (Bool × PH) :=
  jn (fun (h1 : PH) =>
    some (false, h1)) fun j16 =>
  if a1 < 0 then
    j16 h
  else
    ckc (pCls h a0) 0 <|
    bnd (fX0_facts a0 h) fun r1 h2 =>
    if r1 ≤ a1 then
      j16 h2
    else
      some (true, h2)
set_option maxHeartbeats 1000000 in
theorem kX0_isFact {l : Launch} {D : PD} {A : Nat → Prop} {cap : Nat × Nat} {a0 : Nat} {a1 : Int32} {h h' : PH} {r : Bool} (hf : fX0_isFact a0 a1 h = some (r, h')) : CMet l D A cap yX0_isFact cX0_isFact 2 (Option.some Jvm.ClassFile.FieldType.boolean) 3 [.ref a0, .int a1] h h' (some (.int (bI r))) := by
  unfold fX0_isFact at hf
  refine p_head (own := RX0) (ini := false) (pn_X0 rfl) rfl (fun q => by cases q) (Nat.le_of_ble_eq_true rfl) (fun m Z cx sx H0 ls X hM hl => ?_)
  have G := X.g
  have hl : lv_has ls 2 [(0, .ref a0), (1, .int a1)] := hl
  refine g_iload_n G dX0_isFact_0 rfl (lv_at hl 1 rfl) ?_
  obtain ⟨j16, ej16, hf⟩ := jn_open hf
  have J16 : ∀ (h1 : PH) (H : Heap) (locs : List Loc), j16 h1 = some (r, h') → PI D A cap H0 h1 H locs → ∀ ls : Array Slot, lv_has ls 2 [] → Z H locs (cx H) (sx H) (F0 m 16 ls []) := by
    intro h1 H locs hf hM ls hl
    rw [ej16] at hf
    refine g_iconst (v := 0) G dX0_isFact_16 rfl ?_
    exact p_zret X hM hf dX0_isFact_17
  refine g_if_lt (tgt := 16) G dX0_isFact_1 rfl (fun c1 => ?_) (fun c1 => ?_)
  · have hf := it_pos c1 hf
    exact J16 _ _ _ hf hM ls (lv_sub hl [] rfl)
  · have hf := it_neg c1 hf
    refine g_iload_n G dX0_isFact_4 rfl (lv_at hl 1 rfl) ?_
    refine g_aload_n G dX0_isFact_5 rfl (lv_at hl 0 rfl) ?_
    obtain ⟨b1, hf⟩ := ckc_open hf
    obtain ⟨r1, h2, g1, hf⟩ := bnd_open hf
    refine p_callV_r (ci := 0) (As := []) (rest := [.int a1]) X hM hl rfl b1 pcy_X0_facts q1223 q1225 qs35 (kX0_facts g1) rfl (Nat.le_of_ble_eq_true rfl) (Nat.le_of_ble_eq_true rfl) rfl dX0_isFact_6 (fun H locs hM => ?_)
    refine g_icmp_ge (tgt := 16) G dX0_isFact_9 rfl (fun c2 => ?_) (fun c2 => ?_)
    · have hf := it_pos c2 hf
      exact J16 _ _ _ hf hM ls (lv_sub hl [] rfl)
    · have hf := it_neg c2 hf
      refine g_iconst (v := 1) G dX0_isFact_12 rfl ?_
      refine g_goto (tgt := 17) G dX0_isFact_13 rfl ?_
      exact p_zret X hM hf dX0_isFact_17
theorem pcy_X0_isPerson : pcY yX0_isPerson cX0_isPerson 2 (Option.some Jvm.ClassFile.FieldType.boolean) 1 := ⟨q1293, q145, ⟨by decide +kernel, by decide +kernel, by decide +kernel⟩, Nat.le_of_ble_eq_true rfl⟩
noncomputable def fX0_isPerson (a0 : Nat) (a1 : Int32) (h : PH) : Option (Bool × PH) :=
  jn (fun (h1 : PH) =>
    some (false, h1)) fun j16 =>
  if a1 < 0 then
    j16 h
  else
    ckc (pCls h a0) 0 <|
    bnd (fX0_people a0 h) fun r1 h2 =>
    if r1 ≤ a1 then
      j16 h2
    else
      some (true, h2)
set_option maxHeartbeats 1000000 in
theorem kX0_isPerson {l : Launch} {D : PD} {A : Nat → Prop} {cap : Nat × Nat} {a0 : Nat} {a1 : Int32} {h h' : PH} {r : Bool} (hf : fX0_isPerson a0 a1 h = some (r, h')) : CMet l D A cap yX0_isPerson cX0_isPerson 2 (Option.some Jvm.ClassFile.FieldType.boolean) 3 [.ref a0, .int a1] h h' (some (.int (bI r))) := by
  unfold fX0_isPerson at hf
  refine p_head (own := RX0) (ini := false) (pn_X0 rfl) rfl (fun q => by cases q) (Nat.le_of_ble_eq_true rfl) (fun m Z cx sx H0 ls X hM hl => ?_)
  have G := X.g
  have hl : lv_has ls 2 [(0, .ref a0), (1, .int a1)] := hl
  refine g_iload_n G dX0_isPerson_0 rfl (lv_at hl 1 rfl) ?_
  obtain ⟨j16, ej16, hf⟩ := jn_open hf
  have J16 : ∀ (h1 : PH) (H : Heap) (locs : List Loc), j16 h1 = some (r, h') → PI D A cap H0 h1 H locs → ∀ ls : Array Slot, lv_has ls 2 [] → Z H locs (cx H) (sx H) (F0 m 16 ls []) := by
    intro h1 H locs hf hM ls hl
    rw [ej16] at hf
    refine g_iconst (v := 0) G dX0_isPerson_16 rfl ?_
    exact p_zret X hM hf dX0_isPerson_17
  refine g_if_lt (tgt := 16) G dX0_isPerson_1 rfl (fun c1 => ?_) (fun c1 => ?_)
  · have hf := it_pos c1 hf
    exact J16 _ _ _ hf hM ls (lv_sub hl [] rfl)
  · have hf := it_neg c1 hf
    refine g_iload_n G dX0_isPerson_4 rfl (lv_at hl 1 rfl) ?_
    refine g_aload_n G dX0_isPerson_5 rfl (lv_at hl 0 rfl) ?_
    obtain ⟨b1, hf⟩ := ckc_open hf
    obtain ⟨r1, h2, g1, hf⟩ := bnd_open hf
    refine p_callV_r (ci := 0) (As := []) (rest := [.int a1]) X hM hl rfl b1 pcy_X0_people q1227 q1208 qs34 (kX0_people g1) rfl (Nat.le_of_ble_eq_true rfl) (Nat.le_of_ble_eq_true rfl) rfl dX0_isPerson_6 (fun H locs hM => ?_)
    refine g_icmp_ge (tgt := 16) G dX0_isPerson_9 rfl (fun c2 => ?_) (fun c2 => ?_)
    · have hf := it_pos c2 hf
      exact J16 _ _ _ hf hM ls (lv_sub hl [] rfl)
    · have hf := it_neg c2 hf
      refine g_iconst (v := 1) G dX0_isPerson_12 rfl ?_
      refine g_goto (tgt := 17) G dX0_isPerson_13 rfl ?_
      exact p_zret X hM hf dX0_isPerson_17
theorem pcy_X0_worthOf : pcY yX0_worthOf cX0_worthOf 2 (Option.some Jvm.ClassFile.FieldType.int) 1 := ⟨q1276, q145, ⟨by decide +kernel, by decide +kernel, by decide +kernel⟩, Nat.le_of_ble_eq_true rfl⟩
noncomputable def fX0_worthOf (a0 : Nat) (a1 : Int32) (h : PH) : Option (Int32 × PH) :=
  vA (pF h a0 0 0) fun p1 =>
  vA (pF h p1 1 4) fun p2 =>
  ckc (pCls h p2) 21 <|
  bnd (fJ2_get p2 a1 h) fun q1 h1 =>
  qS q1 fun n1 =>
  ck2 (pCls h1 n1) 7 8 <|
  vI (pF2 h1 n1 7 8 1) fun v1 =>
  some (v1, h1)
set_option maxHeartbeats 1000000 in
theorem kX0_worthOf {l : Launch} {D : PD} {A : Nat → Prop} {cap : Nat × Nat} {a0 : Nat} {a1 : Int32} {h h' : PH} {r : Int32} (hf : fX0_worthOf a0 a1 h = some (r, h')) : CMet l D A cap yX0_worthOf cX0_worthOf 2 (Option.some Jvm.ClassFile.FieldType.int) 4 [.ref a0, .int a1] h h' (some (.int r)) := by
  unfold fX0_worthOf at hf
  refine p_head (own := RX0) (ini := false) (pn_X0 rfl) rfl (fun q => by cases q) (Nat.le_of_ble_eq_true rfl) (fun m Z cx sx H0 ls X hM hl => ?_)
  have G := X.g
  have hl : lv_has ls 2 [(0, .ref a0), (1, .int a1)] := hl
  refine g_aload_n G dX0_worthOf_0 rfl (lv_at hl 0 rfl) ?_
  obtain ⟨p1, g1, hf⟩ := vA_open hf
  refine p_get (k := 0) X hM pc_0 (by decide) q446 rfl g1 dX0_worthOf_1 ?_
  obtain ⟨p2, g2, hf⟩ := vA_open hf
  refine p_getN (k := 4) X hM pc_1 (by decide) q240 rfl g2 dX0_worthOf_4 ?_
  refine g_iload_n G dX0_worthOf_7 rfl (lv_at hl 1 rfl) ?_
  obtain ⟨b1, hf⟩ := ckc_open hf
  obtain ⟨q1, h1, g3, hf⟩ := bnd_open hf
  refine p_callF_r (As := [.int a1]) (rest := []) X hM hl b1 pcy_J2_get (fun U hK => hK.1.2.2.1.2.1) ⟨by decide +kernel, by decide +kernel, by decide +kernel⟩ q1245 q763 q761 (kJ2_get g3) rfl (Nat.le_of_ble_eq_true rfl) (Nat.le_of_ble_eq_true rfl) rfl dX0_worthOf_8 (fun H locs hM => ?_)
  obtain ⟨n1, e1, hfq⟩ := qS_open hf
  clear hf; subst e1; have hf := hfq; clear hfq
  obtain ⟨b2, hf⟩ := ck2_open hf
  refine p_cast2 X hM q1246 q2468 b2 dX0_worthOf_13 ?_
  obtain ⟨v1, g4, hf⟩ := vI_open hf
  refine p_get2N (k := 1) X hM (by decide) q802 g4 dX0_worthOf_16 ?_
  exact p_iret X hM hf dX0_worthOf_19
theorem pcy_X0_calmOf : pcY yX0_calmOf cX0_calmOf 2 (Option.some Jvm.ClassFile.FieldType.int) 1 := ⟨q1297, q145, ⟨by decide +kernel, by decide +kernel, by decide +kernel⟩, Nat.le_of_ble_eq_true rfl⟩
noncomputable def fX0_calmOf (a0 : Nat) (a1 : Int32) (h : PH) : Option (Int32 × PH) :=
  vA (pF h a0 0 0) fun p1 =>
  vA (pF h p1 1 5) fun p2 =>
  ckc (pCls h p2) 21 <|
  bnd (fJ2_get p2 a1 h) fun q1 h1 =>
  qS q1 fun n1 =>
  ck2 (pCls h1 n1) 7 8 <|
  vI (pF2 h1 n1 7 8 1) fun v1 =>
  some (v1, h1)
set_option maxHeartbeats 1000000 in
theorem kX0_calmOf {l : Launch} {D : PD} {A : Nat → Prop} {cap : Nat × Nat} {a0 : Nat} {a1 : Int32} {h h' : PH} {r : Int32} (hf : fX0_calmOf a0 a1 h = some (r, h')) : CMet l D A cap yX0_calmOf cX0_calmOf 2 (Option.some Jvm.ClassFile.FieldType.int) 4 [.ref a0, .int a1] h h' (some (.int r)) := by
  unfold fX0_calmOf at hf
  refine p_head (own := RX0) (ini := false) (pn_X0 rfl) rfl (fun q => by cases q) (Nat.le_of_ble_eq_true rfl) (fun m Z cx sx H0 ls X hM hl => ?_)
  have G := X.g
  have hl : lv_has ls 2 [(0, .ref a0), (1, .int a1)] := hl
  refine g_aload_n G dX0_calmOf_0 rfl (lv_at hl 0 rfl) ?_
  obtain ⟨p1, g1, hf⟩ := vA_open hf
  refine p_get (k := 0) X hM pc_0 (by decide) q446 rfl g1 dX0_calmOf_1 ?_
  obtain ⟨p2, g2, hf⟩ := vA_open hf
  refine p_getN (k := 5) X hM pc_1 (by decide) q244 rfl g2 dX0_calmOf_4 ?_
  refine g_iload_n G dX0_calmOf_7 rfl (lv_at hl 1 rfl) ?_
  obtain ⟨b1, hf⟩ := ckc_open hf
  obtain ⟨q1, h1, g3, hf⟩ := bnd_open hf
  refine p_callF_r (As := [.int a1]) (rest := []) X hM hl b1 pcy_J2_get (fun U hK => hK.1.2.2.1.2.1) ⟨by decide +kernel, by decide +kernel, by decide +kernel⟩ q1245 q763 q761 (kJ2_get g3) rfl (Nat.le_of_ble_eq_true rfl) (Nat.le_of_ble_eq_true rfl) rfl dX0_calmOf_8 (fun H locs hM => ?_)
  obtain ⟨n1, e1, hfq⟩ := qS_open hf
  clear hf; subst e1; have hf := hfq; clear hfq
  obtain ⟨b2, hf⟩ := ck2_open hf
  refine p_cast2 X hM q1246 q2468 b2 dX0_calmOf_13 ?_
  obtain ⟨v1, g4, hf⟩ := vI_open hf
  refine p_get2N (k := 1) X hM (by decide) q802 g4 dX0_calmOf_16 ?_
  exact p_iret X hM hf dX0_calmOf_19
theorem pcy_X0_allPeople : pcY yX0_allPeople cX0_allPeople 1 (Option.some Jvm.ClassFile.FieldType.int) 0 := ⟨q1504, q145, ⟨by decide +kernel, by decide +kernel, by decide +kernel⟩, Nat.le_of_ble_eq_true rfl⟩
noncomputable def fX0_allPeople (a0 : Nat) (h : PH) : Option (Int32 × PH) :=
  ckc (pCls h a0) 0 <|
  bnd (fX0_people a0 h) fun r1 h1 =>
  some ((((1 : Int32) <<< (r1 &&& 31)) - 1), h1)
set_option maxHeartbeats 1000000 in
theorem kX0_allPeople {l : Launch} {D : PD} {A : Nat → Prop} {cap : Nat × Nat} {a0 : Nat} {h h' : PH} {r : Int32} (hf : fX0_allPeople a0 h = some (r, h')) : CMet l D A cap yX0_allPeople cX0_allPeople 1 (Option.some Jvm.ClassFile.FieldType.int) 3 [.ref a0] h h' (some (.int r)) := by
  unfold fX0_allPeople at hf
  refine p_head (own := RX0) (ini := false) (pn_X0 rfl) rfl (fun q => by cases q) (Nat.le_of_ble_eq_true rfl) (fun m Z cx sx H0 ls X hM hl => ?_)
  have G := X.g
  have hl : lv_has ls 1 [(0, .ref a0)] := hl
  refine g_iconst (v := 1) G dX0_allPeople_0 rfl ?_
  refine g_aload_n G dX0_allPeople_1 rfl (lv_at hl 0 rfl) ?_
  obtain ⟨b1, hf⟩ := ckc_open hf
  obtain ⟨r1, h1, g1, hf⟩ := bnd_open hf
  refine p_callV_r (ci := 0) (As := []) (rest := [.int 1]) X hM hl rfl b1 pcy_X0_people q1227 q1208 qs34 (kX0_people g1) rfl (Nat.le_of_ble_eq_true rfl) (Nat.le_of_ble_eq_true rfl) rfl dX0_allPeople_2 (fun H locs hM => ?_)
  refine g_ishl G dX0_allPeople_5 ?_
  refine g_iconst (v := 1) G dX0_allPeople_6 rfl ?_
  refine g_isub G dX0_allPeople_7 ?_
  exact p_iret X hM hf dX0_allPeople_8
theorem pcy_X5_begins : pcY yX5_begins cX5_begins 2 none 0 := ⟨q1205, q156, ⟨by decide +kernel, by decide +kernel, by decide +kernel⟩, Nat.le_of_ble_eq_true rfl⟩
noncomputable def fX5_begins_L22 (a0 : Nat) (s22 : Int32 → PH → Option (PH)) (x1 : Int32) (h5 : PH) : Option (PH) :=
  vA (pF h5 a0 5 11) fun p1 =>
  ckc (pCls h5 p1) 0 <|
  bnd (fX0_people p1 h5) fun r1 h6 =>
  if r1 ≤ x1 then
    some h6
  else
    vA (pF h6 a0 5 4) fun p2 =>
    vA (pF h6 a0 5 11) fun p3 =>
    vA (pF h6 p3 0 0) fun p4 =>
    vA (pF h6 p4 1 5) fun p5 =>
    ckc (pCls h6 p5) 21 <|
    bnd (fJ2_get p5 x1 h6) fun q1 h7 =>
    qS q1 fun n1 =>
    ckc (pCls h7 n1) 8 <|
    vI (pF h7 n1 8 2) fun v1 =>
    bnv (pSt h7 p2 0 x1 v1) fun h8 =>
    vA (pF h8 a0 5 5) fun p6 =>
    vA (pF h8 a0 5 11) fun p7 =>
    vA (pF h8 p7 0 0) fun p8 =>
    vA (pF h8 p8 1 5) fun p9 =>
    ckc (pCls h8 p9) 21 <|
    bnd (fJ2_get p9 x1 h8) fun q2 h9 =>
    qS q2 fun n2 =>
    ckc (pCls h9 n2) 8 <|
    vI (pF h9 n2 8 3) fun v2 =>
    bnv (pSt h9 p6 0 x1 v2) fun h10 =>
    vA (pF h10 a0 5 6) fun p10 =>
    vA (pF h10 a0 5 11) fun p11 =>
    vA (pF h10 p11 0 0) fun p12 =>
    vA (pF h10 p12 1 5) fun p13 =>
    ckc (pCls h10 p13) 21 <|
    bnd (fJ2_get p13 x1 h10) fun q3 h11 =>
    qS q3 fun n3 =>
    ckc (pCls h11 n3) 8 <|
    vI (pF h11 n3 8 4) fun v3 =>
    bnv (pSt h11 p10 0 x1 v3) fun h12 =>
    vA (pF h12 a0 5 7) fun p14 =>
    vA (pF h12 a0 5 11) fun p15 =>
    vA (pF h12 p15 0 0) fun p16 =>
    vI (pF h12 p16 1 2) fun v4 =>
    bnv (pSt h12 p14 0 x1 v4) fun h13 =>
    s22 (x1 + 1) h13
noncomputable def fX5_begins (a0 : Nat) (h : PH) : Option (PH) :=
  bnv (pPut h a0 5 0 (.int 0)) fun h1 =>
  bnv (pPut h1 a0 5 1 (.int 0)) fun h2 =>
  bnv (pPut h2 a0 5 2 (.int 0)) fun h3 =>
  bnv (pPut h3 a0 5 3 (.int 0)) fun h4 =>
  fx (fX5_begins_L22 a0) (fun _ _ => none) FU 0 h4
set_option maxHeartbeats 1000000 in
theorem kX5_begins {l : Launch} {D : PD} {A : Nat → Prop} {cap : Nat × Nat} {a0 : Nat} {h h' : PH} (hf : fX5_begins a0 h = some h') : CMet l D A cap yX5_begins cX5_begins 2 none 4 [.ref a0] h h' (none) := by
  unfold fX5_begins at hf
  refine p_head (own := RX5) (ini := false) (pn_X5 rfl) rfl (fun q => by cases q) (Nat.le_of_ble_eq_true rfl) (fun m Z cx sx H0 ls X hM hl => ?_)
  have G := X.g
  have hl : lv_has ls 2 [(0, .ref a0)] := hl
  refine g_aload_n G dX5_begins_0 rfl (lv_at hl 0 rfl) ?_
  refine g_iconst (v := 0) G dX5_begins_1 rfl ?_
  obtain ⟨h1, g1, hf⟩ := bnv_open hf
  refine p_put (k := 0) X hM pc_5 (by decide) q396 rfl rfl rfl rfl g1 dX5_begins_2 (fun H locs hM => ?_)
  refine g_aload_n G dX5_begins_5 rfl (lv_at hl 0 rfl) ?_
  refine g_iconst (v := 0) G dX5_begins_6 rfl ?_
  obtain ⟨h2, g2, hf⟩ := bnv_open hf
  refine p_put (k := 1) X hM pc_5 (by decide) q398 rfl rfl rfl rfl g2 dX5_begins_7 (fun H locs hM => ?_)
  refine g_aload_n G dX5_begins_10 rfl (lv_at hl 0 rfl) ?_
  refine g_iconst (v := 0) G dX5_begins_11 rfl ?_
  obtain ⟨h3, g3, hf⟩ := bnv_open hf
  refine p_put (k := 2) X hM pc_5 (by decide) q400 rfl rfl rfl rfl g3 dX5_begins_12 (fun H locs hM => ?_)
  refine g_aload_n G dX5_begins_15 rfl (lv_at hl 0 rfl) ?_
  refine g_iconst (v := 0) G dX5_begins_16 rfl ?_
  obtain ⟨h4, g4, hf⟩ := bnv_open hf
  refine p_put (k := 3) X hM pc_5 (by decide) q402 rfl rfl rfl rfl g4 dX5_begins_17 (fun H locs hM => ?_)
  refine g_iconst (v := 0) G dX5_begins_20 rfl ?_
  refine g_istore_n (i := 1) (lv' := [(1, .int 0), (0, .ref a0)]) G dX5_begins_21 rfl hl (Nat.le_of_ble_eq_true rfl) rfl (fun ls hl => ?_)
  have L22 : ∀ (n : Nat) (x1 : Int32) (h5 : PH) (H : Heap) (locs : List Loc), fx (fX5_begins_L22 a0) (fun _ _ => none) n x1 h5 = some h' → PI D A cap H0 h5 H locs → ∀ ls : Array Slot, lv_has ls 2 [(0, .ref a0), (1, .int x1)] → Z H locs (cx H) (sx H) (F0 m 22 ls []) := by
    intro n
    induction n with
    | zero => intro x1 h5 H locs hf; exact absurd hf (by intro q; cases q)
    | succ n ih22 =>
      intro x1 h5 H locs hf hM ls hl
      rw [fx_s] at hf
      generalize fx (fX5_begins_L22 a0) (fun _ _ => none) n = s22 at hf ih22
      unfold fX5_begins_L22 at hf
      refine g_iload_n G dX5_begins_22 rfl (lv_at hl 1 rfl) ?_
      refine g_aload_n G dX5_begins_23 rfl (lv_at hl 0 rfl) ?_
      obtain ⟨p1, g5, hf⟩ := vA_open hf
      refine p_get (k := 11) X hM pc_5 (by decide) q416 rfl g5 dX5_begins_24 ?_
      obtain ⟨b1, hf⟩ := ckc_open hf
      obtain ⟨r1, h6, g6, hf⟩ := bnd_open hf
      refine p_callVN_r (ci := 0) (As := []) (rest := [.int x1]) X hM hl rfl b1 pcy_X0_people q1206 q1208 qs34 (kX0_people g6) rfl (Nat.le_of_ble_eq_true rfl) (Nat.le_of_ble_eq_true rfl) rfl dX5_begins_27 (fun H locs hM => ?_)
      refine g_icmp_ge (tgt := 139) G dX5_begins_30 rfl (fun c1 => ?_) (fun c1 => ?_)
      · have hf := it_pos c1 hf
        exact p_vret X hM hf dX5_begins_139
      · have hf := it_neg c1 hf
        refine g_aload_n G dX5_begins_33 rfl (lv_at hl 0 rfl) ?_
        obtain ⟨p2, g7, hf⟩ := vA_open hf
        refine p_get (k := 4) X hM pc_5 (by decide) q404 rfl g7 dX5_begins_34 ?_
        refine g_iload_n G dX5_begins_37 rfl (lv_at hl 1 rfl) ?_
        refine g_aload_n G dX5_begins_38 rfl (lv_at hl 0 rfl) ?_
        obtain ⟨p3, g8, hf⟩ := vA_open hf
        refine p_get (k := 11) X hM pc_5 (by decide) q416 rfl g8 dX5_begins_39 ?_
        obtain ⟨p4, g9, hf⟩ := vA_open hf
        refine p_getN (k := 0) X hM pc_0 (by decide) q445 rfl g9 dX5_begins_42 ?_
        obtain ⟨p5, g10, hf⟩ := vA_open hf
        refine p_getN (k := 5) X hM pc_1 (by decide) q242 rfl g10 dX5_begins_45 ?_
        refine g_iload_n G dX5_begins_48 rfl (lv_at hl 1 rfl) ?_
        obtain ⟨b2, hf⟩ := ckc_open hf
        obtain ⟨q1, h7, g11, hf⟩ := bnd_open hf
        refine p_callF_r (As := [.int x1]) (rest := [.int x1, .ref p2]) X hM hl b2 pcy_J2_get (fun U hK => hK.1.2.2.1.2.1) ⟨by decide +kernel, by decide +kernel, by decide +kernel⟩ q1213 q763 q761 (kJ2_get g11) rfl (Nat.le_of_ble_eq_true rfl) (Nat.le_of_ble_eq_true rfl) rfl dX5_begins_49 (fun H locs hM => ?_)
        obtain ⟨n1, e1, hfq⟩ := qS_open hf
        clear hf; subst e1; have hf := hfq; clear hfq
        obtain ⟨b4, hf⟩ := ckc_open hf
        refine p_castS X hM (ci := 8) rfl q1214 b4 dX5_begins_54 ?_
        obtain ⟨v1, g12, hf⟩ := vI_open hf
        refine p_getN (k := 2) X hM pc_8 (by decide) q892 rfl g12 dX5_begins_57 ?_
        obtain ⟨h8, g13, hf⟩ := bnv_open hf
        refine p_iast X hM g13 dX5_begins_60 (fun H locs hM => ?_)
        refine g_aload_n G dX5_begins_61 rfl (lv_at hl 0 rfl) ?_
        obtain ⟨p6, g14, hf⟩ := vA_open hf
        refine p_get (k := 5) X hM pc_5 (by decide) q406 rfl g14 dX5_begins_62 ?_
        refine g_iload_n G dX5_begins_65 rfl (lv_at hl 1 rfl) ?_
        refine g_aload_n G dX5_begins_66 rfl (lv_at hl 0 rfl) ?_
        obtain ⟨p7, g15, hf⟩ := vA_open hf
        refine p_get (k := 11) X hM pc_5 (by decide) q416 rfl g15 dX5_begins_67 ?_
        obtain ⟨p8, g16, hf⟩ := vA_open hf
        refine p_getN (k := 0) X hM pc_0 (by decide) q445 rfl g16 dX5_begins_70 ?_
        obtain ⟨p9, g17, hf⟩ := vA_open hf
        refine p_getN (k := 5) X hM pc_1 (by decide) q242 rfl g17 dX5_begins_73 ?_
        refine g_iload_n G dX5_begins_76 rfl (lv_at hl 1 rfl) ?_
        obtain ⟨b5, hf⟩ := ckc_open hf
        obtain ⟨q2, h9, g18, hf⟩ := bnd_open hf
        refine p_callF_r (As := [.int x1]) (rest := [.int x1, .ref p6]) X hM hl b5 pcy_J2_get (fun U hK => hK.1.2.2.1.2.1) ⟨by decide +kernel, by decide +kernel, by decide +kernel⟩ q1213 q763 q761 (kJ2_get g18) rfl (Nat.le_of_ble_eq_true rfl) (Nat.le_of_ble_eq_true rfl) rfl dX5_begins_77 (fun H locs hM => ?_)
        obtain ⟨n2, e2, hfq⟩ := qS_open hf
        clear hf; subst e2; have hf := hfq; clear hfq
        obtain ⟨b7, hf⟩ := ckc_open hf
        refine p_castS X hM (ci := 8) rfl q1214 b7 dX5_begins_82 ?_
        obtain ⟨v2, g19, hf⟩ := vI_open hf
        refine p_getN (k := 3) X hM pc_8 (by decide) q894 rfl g19 dX5_begins_85 ?_
        obtain ⟨h10, g20, hf⟩ := bnv_open hf
        refine p_iast X hM g20 dX5_begins_88 (fun H locs hM => ?_)
        refine g_aload_n G dX5_begins_89 rfl (lv_at hl 0 rfl) ?_
        obtain ⟨p10, g21, hf⟩ := vA_open hf
        refine p_get (k := 6) X hM pc_5 (by decide) q408 rfl g21 dX5_begins_90 ?_
        refine g_iload_n G dX5_begins_93 rfl (lv_at hl 1 rfl) ?_
        refine g_aload_n G dX5_begins_94 rfl (lv_at hl 0 rfl) ?_
        obtain ⟨p11, g22, hf⟩ := vA_open hf
        refine p_get (k := 11) X hM pc_5 (by decide) q416 rfl g22 dX5_begins_95 ?_
        obtain ⟨p12, g23, hf⟩ := vA_open hf
        refine p_getN (k := 0) X hM pc_0 (by decide) q445 rfl g23 dX5_begins_98 ?_
        obtain ⟨p13, g24, hf⟩ := vA_open hf
        refine p_getN (k := 5) X hM pc_1 (by decide) q242 rfl g24 dX5_begins_101 ?_
        refine g_iload_n G dX5_begins_104 rfl (lv_at hl 1 rfl) ?_
        obtain ⟨b8, hf⟩ := ckc_open hf
        obtain ⟨q3, h11, g25, hf⟩ := bnd_open hf
        refine p_callF_r (As := [.int x1]) (rest := [.int x1, .ref p10]) X hM hl b8 pcy_J2_get (fun U hK => hK.1.2.2.1.2.1) ⟨by decide +kernel, by decide +kernel, by decide +kernel⟩ q1213 q763 q761 (kJ2_get g25) rfl (Nat.le_of_ble_eq_true rfl) (Nat.le_of_ble_eq_true rfl) rfl dX5_begins_105 (fun H locs hM => ?_)
        obtain ⟨n3, e3, hfq⟩ := qS_open hf
        clear hf; subst e3; have hf := hfq; clear hfq
        obtain ⟨b10, hf⟩ := ckc_open hf
        refine p_castS X hM (ci := 8) rfl q1214 b10 dX5_begins_110 ?_
        obtain ⟨v3, g26, hf⟩ := vI_open hf
        refine p_getN (k := 4) X hM pc_8 (by decide) q896 rfl g26 dX5_begins_113 ?_
        obtain ⟨h12, g27, hf⟩ := bnv_open hf
        refine p_iast X hM g27 dX5_begins_116 (fun H locs hM => ?_)
        refine g_aload_n G dX5_begins_117 rfl (lv_at hl 0 rfl) ?_
        obtain ⟨p14, g28, hf⟩ := vA_open hf
        refine p_get (k := 7) X hM pc_5 (by decide) q410 rfl g28 dX5_begins_118 ?_
        refine g_iload_n G dX5_begins_121 rfl (lv_at hl 1 rfl) ?_
        refine g_aload_n G dX5_begins_122 rfl (lv_at hl 0 rfl) ?_
        obtain ⟨p15, g29, hf⟩ := vA_open hf
        refine p_get (k := 11) X hM pc_5 (by decide) q416 rfl g29 dX5_begins_123 ?_
        obtain ⟨p16, g30, hf⟩ := vA_open hf
        refine p_getN (k := 0) X hM pc_0 (by decide) q445 rfl g30 dX5_begins_126 ?_
        obtain ⟨v4, g31, hf⟩ := vI_open hf
        refine p_getN (k := 2) X hM pc_1 (by decide) q233 rfl g31 dX5_begins_129 ?_
        obtain ⟨h13, g32, hf⟩ := bnv_open hf
        refine p_iast X hM g32 dX5_begins_132 (fun H locs hM => ?_)
        refine g_iinc (v := x1 + 1) (lv' := [(1, .int (x1 + 1)), (0, .ref a0)]) G dX5_begins_133 hl (k := 1) rfl rfl (Nat.le_of_ble_eq_true rfl) rfl (fun ls hl => ?_)
        refine g_goto (tgt := 22) G dX5_begins_136 rfl ?_
        exact ih22 _ _ _ _ hf hM ls (lv_sub hl [1, 0] rfl)
  exact L22 FU _ _ _ _ hf hM ls (lv_sub hl [1, 0] rfl)
theorem pcy_X5_copy : pcY yX5_copy cX5_copy 4 (Option.some (Jvm.ClassFile.FieldType.object "PupilsPupil$State")) 1 := ⟨q1425, q156, ⟨by decide +kernel, by decide +kernel, by decide +kernel⟩, Nat.le_of_ble_eq_true rfl⟩
noncomputable def fX5_copy_L106 (a0 : Nat) (a1 : Nat) (x1 : Int32) (k133 : PH → Option (Nat × PH)) (s106 : Int32 → PH → Option (Nat × PH)) (x2 : Int32) (h8 : PH) : Option (Nat × PH) :=
  if (3 : Int32) ≤ x2 then
    k133 h8
  else
    vA (pF h8 a0 5 8) fun p1 =>
    ob (pLdQ h8 p1 6 x1) fun q1 =>
    vA (pF h8 a1 5 8) fun p2 =>
    ob (pLdQ h8 p2 6 x1) fun q2 =>
    qS q2 fun n1 =>
    ob (pLd h8 n1 0 x2) fun v6 =>
    qS q1 fun n2 =>
    bnv (pSt h8 n2 0 x2 v6) fun h9 =>
    s106 (x2 + 1) h9
noncomputable def fX5_copy_L96 (a0 : Nat) (a1 : Nat) (s96 : Int32 → PH → Option (Nat × PH)) (x1 : Int32) (h6 : PH) : Option (Nat × PH) :=
  vI (pF h6 a0 5 3) fun v5 =>
  if v5 ≤ x1 then
    some (a0, h6)
  else
    jn (fun (h7 : PH) =>
      s96 (x1 + 1) h7) fun k133 =>
    fx (fX5_copy_L106 a0 a1 x1 k133) (fun _ _ => none) FU 0 h6
noncomputable def fX5_copy_L34 (a0 : Nat) (a1 : Nat) (k94 : PH → Option (Nat × PH)) (s34 : Int32 → PH → Option (Nat × PH)) (x3 : Int32) (h10 : PH) : Option (Nat × PH) :=
  if (8 : Int32) ≤ x3 then
    k94 h10
  else
    vA (pF h10 a0 5 4) fun p3 =>
    vA (pF h10 a1 5 4) fun p4 =>
    ob (pLd h10 p4 0 x3) fun v7 =>
    bnv (pSt h10 p3 0 x3 v7) fun h11 =>
    vA (pF h11 a0 5 5) fun p5 =>
    vA (pF h11 a1 5 5) fun p6 =>
    ob (pLd h11 p6 0 x3) fun v8 =>
    bnv (pSt h11 p5 0 x3 v8) fun h12 =>
    vA (pF h12 a0 5 6) fun p7 =>
    vA (pF h12 a1 5 6) fun p8 =>
    ob (pLd h12 p8 0 x3) fun v9 =>
    bnv (pSt h12 p7 0 x3 v9) fun h13 =>
    vA (pF h13 a0 5 7) fun p9 =>
    vA (pF h13 a1 5 7) fun p10 =>
    ob (pLd h13 p10 0 x3) fun v10 =>
    bnv (pSt h13 p9 0 x3 v10) fun h14 =>
    s34 (x3 + 1) h14
noncomputable def fX5_copy (a0 : Nat) (a1 : Nat) (h : PH) : Option (Nat × PH) :=
  vI (pF h a1 5 0) fun v1 =>
  bnv (pPut h a0 5 0 (.int v1)) fun h1 =>
  vI (pF h1 a1 5 1) fun v2 =>
  bnv (pPut h1 a0 5 1 (.int v2)) fun h2 =>
  vI (pF h2 a1 5 2) fun v3 =>
  bnv (pPut h2 a0 5 2 (.int v3)) fun h3 =>
  vI (pF h3 a1 5 3) fun v4 =>
  bnv (pPut h3 a0 5 3 (.int v4)) fun h4 =>
  jn (fun (h5 : PH) =>
    fx (fX5_copy_L96 a0 a1) (fun _ _ => none) FU 0 h5) fun k94 =>
  fx (fX5_copy_L34 a0 a1 k94) (fun _ _ => none) FU 0 h4
set_option maxHeartbeats 1000000 in
theorem kX5_copy {l : Launch} {D : PD} {A : Nat → Prop} {cap : Nat × Nat} {a0 : Nat} {a1 : Nat} {h h' : PH} {r : Nat} (hf : fX5_copy a0 a1 h = some (r, h')) : CMet l D A cap yX5_copy cX5_copy 4 (Option.some (Jvm.ClassFile.FieldType.object "PupilsPupil$State")) 1 [.ref a0, .ref a1] h h' (some (.ref r)) := by
  unfold fX5_copy at hf
  refine p_head (own := RX5) (ini := false) (pn_X5 rfl) rfl (fun q => by cases q) (Nat.le_of_ble_eq_true rfl) (fun m Z cx sx H0 ls X hM hl => ?_)
  have G := X.g
  have hl : lv_has ls 4 [(0, .ref a0), (1, .ref a1)] := hl
  refine g_aload_n G dX5_copy_0 rfl (lv_at hl 0 rfl) ?_
  refine g_aload_n G dX5_copy_1 rfl (lv_at hl 1 rfl) ?_
  obtain ⟨v1, g1, hf⟩ := vI_open hf
  refine p_get (k := 0) X hM pc_5 (by decide) q396 rfl g1 dX5_copy_2 ?_
  obtain ⟨h1, g2, hf⟩ := bnv_open hf
  refine p_put (k := 0) X hM pc_5 (by decide) q396 rfl rfl rfl rfl g2 dX5_copy_5 (fun H locs hM => ?_)
  refine g_aload_n G dX5_copy_8 rfl (lv_at hl 0 rfl) ?_
  refine g_aload_n G dX5_copy_9 rfl (lv_at hl 1 rfl) ?_
  obtain ⟨v2, g3, hf⟩ := vI_open hf
  refine p_get (k := 1) X hM pc_5 (by decide) q398 rfl g3 dX5_copy_10 ?_
  obtain ⟨h2, g4, hf⟩ := bnv_open hf
  refine p_put (k := 1) X hM pc_5 (by decide) q398 rfl rfl rfl rfl g4 dX5_copy_13 (fun H locs hM => ?_)
  refine g_aload_n G dX5_copy_16 rfl (lv_at hl 0 rfl) ?_
  refine g_aload_n G dX5_copy_17 rfl (lv_at hl 1 rfl) ?_
  obtain ⟨v3, g5, hf⟩ := vI_open hf
  refine p_get (k := 2) X hM pc_5 (by decide) q400 rfl g5 dX5_copy_18 ?_
  obtain ⟨h3, g6, hf⟩ := bnv_open hf
  refine p_put (k := 2) X hM pc_5 (by decide) q400 rfl rfl rfl rfl g6 dX5_copy_21 (fun H locs hM => ?_)
  refine g_aload_n G dX5_copy_24 rfl (lv_at hl 0 rfl) ?_
  refine g_aload_n G dX5_copy_25 rfl (lv_at hl 1 rfl) ?_
  obtain ⟨v4, g7, hf⟩ := vI_open hf
  refine p_get (k := 3) X hM pc_5 (by decide) q402 rfl g7 dX5_copy_26 ?_
  obtain ⟨h4, g8, hf⟩ := bnv_open hf
  refine p_put (k := 3) X hM pc_5 (by decide) q402 rfl rfl rfl rfl g8 dX5_copy_29 (fun H locs hM => ?_)
  refine g_iconst (v := 0) G dX5_copy_32 rfl ?_
  refine g_istore_n (i := 2) (lv' := [(2, .int 0), (0, .ref a0), (1, .ref a1)]) G dX5_copy_33 rfl hl (Nat.le_of_ble_eq_true rfl) rfl (fun ls hl => ?_)
  obtain ⟨k94, ek94, hf⟩ := jn_open hf
  have K94 : ∀ (h5 : PH) (H : Heap) (locs : List Loc), k94 h5 = some (r, h') → PI D A cap H0 h5 H locs → ∀ ls : Array Slot, lv_has ls 4 [(0, .ref a0), (1, .ref a1)] → Z H locs (cx H) (sx H) (F0 m 94 ls []) := by
    intro h5 H locs hf hM ls hl
    rw [ek94] at hf
    refine g_iconst (v := 0) G dX5_copy_94 rfl ?_
    refine g_istore_n (i := 2) (lv' := [(2, .int 0), (0, .ref a0), (1, .ref a1)]) G dX5_copy_95 rfl hl (Nat.le_of_ble_eq_true rfl) rfl (fun ls hl => ?_)
    have L96 : ∀ (n : Nat) (x1 : Int32) (h6 : PH) (H : Heap) (locs : List Loc), fx (fX5_copy_L96 a0 a1) (fun _ _ => none) n x1 h6 = some (r, h') → PI D A cap H0 h6 H locs → ∀ ls : Array Slot, lv_has ls 4 [(0, .ref a0), (1, .ref a1), (2, .int x1)] → Z H locs (cx H) (sx H) (F0 m 96 ls []) := by
      intro n
      induction n with
      | zero => intro x1 h6 H locs hf; exact absurd hf (by intro q; cases q)
      | succ n ih96 =>
        intro x1 h6 H locs hf hM ls hl
        rw [fx_s] at hf
        generalize fx (fX5_copy_L96 a0 a1) (fun _ _ => none) n = s96 at hf ih96
        unfold fX5_copy_L96 at hf
        refine g_iload_n G dX5_copy_96 rfl (lv_at hl 2 rfl) ?_
        refine g_aload_n G dX5_copy_97 rfl (lv_at hl 0 rfl) ?_
        obtain ⟨v5, g9, hf⟩ := vI_open hf
        refine p_get (k := 3) X hM pc_5 (by decide) q402 rfl g9 dX5_copy_98 ?_
        refine g_icmp_ge (tgt := 139) G dX5_copy_101 rfl (fun c1 => ?_) (fun c1 => ?_)
        · have hf := it_pos c1 hf
          refine g_aload_n G dX5_copy_139 rfl (lv_at hl 0 rfl) ?_
          exact p_aret X (Or.inl ⟨_, rfl⟩) hM hf dX5_copy_140
        · have hf := it_neg c1 hf
          refine g_iconst (v := 0) G dX5_copy_104 rfl ?_
          refine g_istore_n (i := 3) (lv' := [(3, .int 0), (0, .ref a0), (1, .ref a1), (2, .int x1)]) G dX5_copy_105 rfl hl (Nat.le_of_ble_eq_true rfl) rfl (fun ls hl => ?_)
          obtain ⟨k133, ek133, hf⟩ := jn_open hf
          have K133 : ∀ (h7 : PH) (H : Heap) (locs : List Loc), k133 h7 = some (r, h') → PI D A cap H0 h7 H locs → ∀ ls : Array Slot, lv_has ls 4 [(0, .ref a0), (1, .ref a1), (2, .int x1)] → Z H locs (cx H) (sx H) (F0 m 133 ls []) := by
            intro h7 H locs hf hM ls hl
            rw [ek133] at hf
            refine g_iinc (v := x1 + 1) (lv' := [(2, .int (x1 + 1)), (0, .ref a0), (1, .ref a1)]) G dX5_copy_133 hl (k := 2) rfl rfl (Nat.le_of_ble_eq_true rfl) rfl (fun ls hl => ?_)
            refine g_goto (tgt := 96) G dX5_copy_136 rfl ?_
            exact ih96 _ _ _ _ hf hM ls (lv_sub hl [1, 2, 0] rfl)
          have L106 : ∀ (n : Nat) (x2 : Int32) (h8 : PH) (H : Heap) (locs : List Loc), fx (fX5_copy_L106 a0 a1 x1 k133) (fun _ _ => none) n x2 h8 = some (r, h') → PI D A cap H0 h8 H locs → ∀ ls : Array Slot, lv_has ls 4 [(0, .ref a0), (1, .ref a1), (2, .int x1), (3, .int x2)] → Z H locs (cx H) (sx H) (F0 m 106 ls []) := by
            intro n
            induction n with
            | zero => intro x2 h8 H locs hf; exact absurd hf (by intro q; cases q)
            | succ n ih106 =>
              intro x2 h8 H locs hf hM ls hl
              rw [fx_s] at hf
              generalize fx (fX5_copy_L106 a0 a1 x1 k133) (fun _ _ => none) n = s106 at hf ih106
              unfold fX5_copy_L106 at hf
              refine g_iload_n G dX5_copy_106 rfl (lv_at hl 3 rfl) ?_
              refine g_iconst (v := 3) G dX5_copy_107 rfl ?_
              refine g_icmp_ge (tgt := 133) G dX5_copy_108 rfl (fun c2 => ?_) (fun c2 => ?_)
              · have hf := it_pos c2 hf
                exact K133 _ _ _ hf hM ls (lv_sub hl [0, 1, 2] rfl)
              · have hf := it_neg c2 hf
                refine g_aload_n G dX5_copy_111 rfl (lv_at hl 0 rfl) ?_
                obtain ⟨p1, g10, hf⟩ := vA_open hf
                refine p_get (k := 8) X hM pc_5 (by decide) q412 rfl g10 dX5_copy_112 ?_
                refine g_iload_n G dX5_copy_115 rfl (lv_at hl 2 rfl) ?_
                obtain ⟨q1, g11, hf⟩ := ob_open hf
                refine p_aald X hM (kd := 6) (by decide) rfl g11 dX5_copy_116 ?_
                refine g_iload_n G dX5_copy_117 rfl (lv_at hl 3 rfl) ?_
                refine g_aload_n G dX5_copy_118 rfl (lv_at hl 1 rfl) ?_
                obtain ⟨p2, g12, hf⟩ := vA_open hf
                refine p_get (k := 8) X hM pc_5 (by decide) q412 rfl g12 dX5_copy_119 ?_
                refine g_iload_n G dX5_copy_122 rfl (lv_at hl 2 rfl) ?_
                obtain ⟨q2, g13, hf⟩ := ob_open hf
                refine p_aald X hM (kd := 6) (by decide) rfl g13 dX5_copy_123 ?_
                refine g_iload_n G dX5_copy_124 rfl (lv_at hl 3 rfl) ?_
                obtain ⟨n1, e1, hfq⟩ := qS_open hf
                clear hf; subst e1; have hf := hfq; clear hfq
                obtain ⟨v6, g14, hf⟩ := ob_open hf
                refine p_iald X hM g14 dX5_copy_125 ?_
                obtain ⟨n2, e2, hfq⟩ := qS_open hf
                clear hf; subst e2; have hf := hfq; clear hfq
                obtain ⟨h9, g15, hf⟩ := bnv_open hf
                refine p_iast X hM g15 dX5_copy_126 (fun H locs hM => ?_)
                refine g_iinc (v := x2 + 1) (lv' := [(3, .int (x2 + 1)), (0, .ref a0), (1, .ref a1), (2, .int x1)]) G dX5_copy_127 hl (k := 3) rfl rfl (Nat.le_of_ble_eq_true rfl) rfl (fun ls hl => ?_)
                refine g_goto (tgt := 106) G dX5_copy_130 rfl ?_
                exact ih106 _ _ _ _ hf hM ls (lv_sub hl [1, 2, 3, 0] rfl)
          exact L106 FU _ _ _ _ hf hM ls (lv_sub hl [1, 2, 3, 0] rfl)
    exact L96 FU _ _ _ _ hf hM ls (lv_sub hl [1, 2, 0] rfl)
  have L34 : ∀ (n : Nat) (x3 : Int32) (h10 : PH) (H : Heap) (locs : List Loc), fx (fX5_copy_L34 a0 a1 k94) (fun _ _ => none) n x3 h10 = some (r, h') → PI D A cap H0 h10 H locs → ∀ ls : Array Slot, lv_has ls 4 [(0, .ref a0), (1, .ref a1), (2, .int x3)] → Z H locs (cx H) (sx H) (F0 m 34 ls []) := by
    intro n
    induction n with
    | zero => intro x3 h10 H locs hf; exact absurd hf (by intro q; cases q)
    | succ n ih34 =>
      intro x3 h10 H locs hf hM ls hl
      rw [fx_s] at hf
      generalize fx (fX5_copy_L34 a0 a1 k94) (fun _ _ => none) n = s34 at hf ih34
      unfold fX5_copy_L34 at hf
      refine g_iload_n G dX5_copy_34 rfl (lv_at hl 2 rfl) ?_
      refine g_bipush (v := 8) G dX5_copy_35 rfl ?_
      refine g_icmp_ge (tgt := 94) G dX5_copy_37 rfl (fun c3 => ?_) (fun c3 => ?_)
      · have hf := it_pos c3 hf
        exact K94 _ _ _ hf hM ls (lv_sub hl [0, 1] rfl)
      · have hf := it_neg c3 hf
        refine g_aload_n G dX5_copy_40 rfl (lv_at hl 0 rfl) ?_
        obtain ⟨p3, g16, hf⟩ := vA_open hf
        refine p_get (k := 4) X hM pc_5 (by decide) q404 rfl g16 dX5_copy_41 ?_
        refine g_iload_n G dX5_copy_44 rfl (lv_at hl 2 rfl) ?_
        refine g_aload_n G dX5_copy_45 rfl (lv_at hl 1 rfl) ?_
        obtain ⟨p4, g17, hf⟩ := vA_open hf
        refine p_get (k := 4) X hM pc_5 (by decide) q404 rfl g17 dX5_copy_46 ?_
        refine g_iload_n G dX5_copy_49 rfl (lv_at hl 2 rfl) ?_
        obtain ⟨v7, g18, hf⟩ := ob_open hf
        refine p_iald X hM g18 dX5_copy_50 ?_
        obtain ⟨h11, g19, hf⟩ := bnv_open hf
        refine p_iast X hM g19 dX5_copy_51 (fun H locs hM => ?_)
        refine g_aload_n G dX5_copy_52 rfl (lv_at hl 0 rfl) ?_
        obtain ⟨p5, g20, hf⟩ := vA_open hf
        refine p_get (k := 5) X hM pc_5 (by decide) q406 rfl g20 dX5_copy_53 ?_
        refine g_iload_n G dX5_copy_56 rfl (lv_at hl 2 rfl) ?_
        refine g_aload_n G dX5_copy_57 rfl (lv_at hl 1 rfl) ?_
        obtain ⟨p6, g21, hf⟩ := vA_open hf
        refine p_get (k := 5) X hM pc_5 (by decide) q406 rfl g21 dX5_copy_58 ?_
        refine g_iload_n G dX5_copy_61 rfl (lv_at hl 2 rfl) ?_
        obtain ⟨v8, g22, hf⟩ := ob_open hf
        refine p_iald X hM g22 dX5_copy_62 ?_
        obtain ⟨h12, g23, hf⟩ := bnv_open hf
        refine p_iast X hM g23 dX5_copy_63 (fun H locs hM => ?_)
        refine g_aload_n G dX5_copy_64 rfl (lv_at hl 0 rfl) ?_
        obtain ⟨p7, g24, hf⟩ := vA_open hf
        refine p_get (k := 6) X hM pc_5 (by decide) q408 rfl g24 dX5_copy_65 ?_
        refine g_iload_n G dX5_copy_68 rfl (lv_at hl 2 rfl) ?_
        refine g_aload_n G dX5_copy_69 rfl (lv_at hl 1 rfl) ?_
        obtain ⟨p8, g25, hf⟩ := vA_open hf
        refine p_get (k := 6) X hM pc_5 (by decide) q408 rfl g25 dX5_copy_70 ?_
        refine g_iload_n G dX5_copy_73 rfl (lv_at hl 2 rfl) ?_
        obtain ⟨v9, g26, hf⟩ := ob_open hf
        refine p_iald X hM g26 dX5_copy_74 ?_
        obtain ⟨h13, g27, hf⟩ := bnv_open hf
        refine p_iast X hM g27 dX5_copy_75 (fun H locs hM => ?_)
        refine g_aload_n G dX5_copy_76 rfl (lv_at hl 0 rfl) ?_
        obtain ⟨p9, g28, hf⟩ := vA_open hf
        refine p_get (k := 7) X hM pc_5 (by decide) q410 rfl g28 dX5_copy_77 ?_
        refine g_iload_n G dX5_copy_80 rfl (lv_at hl 2 rfl) ?_
        refine g_aload_n G dX5_copy_81 rfl (lv_at hl 1 rfl) ?_
        obtain ⟨p10, g29, hf⟩ := vA_open hf
        refine p_get (k := 7) X hM pc_5 (by decide) q410 rfl g29 dX5_copy_82 ?_
        refine g_iload_n G dX5_copy_85 rfl (lv_at hl 2 rfl) ?_
        obtain ⟨v10, g30, hf⟩ := ob_open hf
        refine p_iald X hM g30 dX5_copy_86 ?_
        obtain ⟨h14, g31, hf⟩ := bnv_open hf
        refine p_iast X hM g31 dX5_copy_87 (fun H locs hM => ?_)
        refine g_iinc (v := x3 + 1) (lv' := [(2, .int (x3 + 1)), (0, .ref a0), (1, .ref a1)]) G dX5_copy_88 hl (k := 2) rfl rfl (Nat.le_of_ble_eq_true rfl) rfl (fun ls hl => ?_)
        refine g_goto (tgt := 34) G dX5_copy_91 rfl ?_
        exact ih34 _ _ _ _ hf hM ls (lv_sub hl [1, 2, 0] rfl)
  exact L34 FU _ _ _ _ hf hM ls (lv_sub hl [1, 2, 0] rfl)
theorem pcy_X5_pupils : pcY yX5_pupils cX5_pupils 4 (Option.some Jvm.ClassFile.FieldType.int) 1 := ⟨q1301, q156, ⟨by decide +kernel, by decide +kernel, by decide +kernel⟩, Nat.le_of_ble_eq_true rfl⟩
noncomputable def fX5_pupils_L4 (a0 : Nat) (a1 : Int32) (s4 : Int32 → Int32 → PH → Option (Int32 × PH)) (x1 : Int32) (x2 : Int32) (h1 : PH) : Option (Int32 × PH) :=
  vA (pF h1 a0 5 11) fun p1 =>
  ckc (pCls h1 p1) 0 <|
  bnd (fX0_people p1 h1) fun r1 h2 =>
  if r1 ≤ x2 then
    some (x1, h2)
  else
    vA (pF h2 a0 5 4) fun p2 =>
    ob (pLd h2 p2 0 x2) fun v1 =>
    jn (fun (x3 : Int32) (h3 : PH) =>
      s4 (x1 ||| x3) (x2 + 1) h3) fun j33 =>
    if v1 = a1 then
      j33 ((1 : Int32) <<< (x2 &&& 31)) h2
    else
      j33 0 h2
noncomputable def fX5_pupils (a0 : Nat) (a1 : Int32) (h : PH) : Option (Int32 × PH) :=
  fx (fX5_pupils_L4 a0 a1) (fun _ _ _ => none) FU 0 0 h
set_option maxHeartbeats 1000000 in
theorem kX5_pupils {l : Launch} {D : PD} {A : Nat → Prop} {cap : Nat × Nat} {a0 : Nat} {a1 : Int32} {h h' : PH} {r : Int32} (hf : fX5_pupils a0 a1 h = some (r, h')) : CMet l D A cap yX5_pupils cX5_pupils 4 (Option.some Jvm.ClassFile.FieldType.int) 3 [.ref a0, .int a1] h h' (some (.int r)) := by
  unfold fX5_pupils at hf
  refine p_head (own := RX5) (ini := false) (pn_X5 rfl) rfl (fun q => by cases q) (Nat.le_of_ble_eq_true rfl) (fun m Z cx sx H0 ls X hM hl => ?_)
  have G := X.g
  have hl : lv_has ls 4 [(0, .ref a0), (1, .int a1)] := hl
  refine g_iconst (v := 0) G dX5_pupils_0 rfl ?_
  refine g_istore_n (i := 2) (lv' := [(2, .int 0), (0, .ref a0), (1, .int a1)]) G dX5_pupils_1 rfl hl (Nat.le_of_ble_eq_true rfl) rfl (fun ls hl => ?_)
  refine g_iconst (v := 0) G dX5_pupils_2 rfl ?_
  refine g_istore_n (i := 3) (lv' := [(3, .int 0), (2, .int 0), (0, .ref a0), (1, .int a1)]) G dX5_pupils_3 rfl hl (Nat.le_of_ble_eq_true rfl) rfl (fun ls hl => ?_)
  have L4 : ∀ (n : Nat) (x1 : Int32) (x2 : Int32) (h1 : PH) (H : Heap) (locs : List Loc), fx (fX5_pupils_L4 a0 a1) (fun _ _ _ => none) n x1 x2 h1 = some (r, h') → PI D A cap H0 h1 H locs → ∀ ls : Array Slot, lv_has ls 4 [(0, .ref a0), (1, .int a1), (2, .int x1), (3, .int x2)] → Z H locs (cx H) (sx H) (F0 m 4 ls []) := by
    intro n
    induction n with
    | zero => intro x1 x2 h1 H locs hf; exact absurd hf (by intro q; cases q)
    | succ n ih4 =>
      intro x1 x2 h1 H locs hf hM ls hl
      rw [fx_s] at hf
      generalize fx (fX5_pupils_L4 a0 a1) (fun _ _ _ => none) n = s4 at hf ih4
      unfold fX5_pupils_L4 at hf
      refine g_iload_n G dX5_pupils_4 rfl (lv_at hl 3 rfl) ?_
      refine g_aload_n G dX5_pupils_5 rfl (lv_at hl 0 rfl) ?_
      obtain ⟨p1, g1, hf⟩ := vA_open hf
      refine p_get (k := 11) X hM pc_5 (by decide) q416 rfl g1 dX5_pupils_6 ?_
      obtain ⟨b1, hf⟩ := ckc_open hf
      obtain ⟨r1, h2, g2, hf⟩ := bnd_open hf
      refine p_callVN_r (ci := 0) (As := []) (rest := [.int x2]) X hM hl rfl b1 pcy_X0_people q1206 q1208 qs34 (kX0_people g2) rfl (Nat.le_of_ble_eq_true rfl) (Nat.le_of_ble_eq_true rfl) rfl dX5_pupils_9 (fun H locs hM => ?_)
      refine g_icmp_ge (tgt := 41) G dX5_pupils_12 rfl (fun c1 => ?_) (fun c1 => ?_)
      · have hf := it_pos c1 hf
        refine g_iload_n G dX5_pupils_41 rfl (lv_at hl 2 rfl) ?_
        exact p_iret X hM hf dX5_pupils_42
      · have hf := it_neg c1 hf
        refine g_iload_n G dX5_pupils_15 rfl (lv_at hl 2 rfl) ?_
        refine g_aload_n G dX5_pupils_16 rfl (lv_at hl 0 rfl) ?_
        obtain ⟨p2, g3, hf⟩ := vA_open hf
        refine p_get (k := 4) X hM pc_5 (by decide) q404 rfl g3 dX5_pupils_17 ?_
        refine g_iload_n G dX5_pupils_20 rfl (lv_at hl 3 rfl) ?_
        obtain ⟨v1, g4, hf⟩ := ob_open hf
        refine p_iald X hM g4 dX5_pupils_21 ?_
        refine g_iload_n G dX5_pupils_22 rfl (lv_at hl 1 rfl) ?_
        obtain ⟨j33, ej33, hf⟩ := jn_open hf
        have J33 : ∀ (x3 : Int32) (h3 : PH) (H : Heap) (locs : List Loc), j33 x3 h3 = some (r, h') → PI D A cap H0 h3 H locs → ∀ ls : Array Slot, lv_has ls 4 [(0, .ref a0), (1, .int a1), (3, .int x2)] → Z H locs (cx H) (sx H) (F0 m 33 ls [.int x3, .int x1]) := by
          intro x3 h3 H locs hf hM ls hl
          rw [ej33] at hf
          refine g_ior G dX5_pupils_33 ?_
          refine g_istore_n (i := 2) (lv' := [(2, .int (x1 ||| x3)), (0, .ref a0), (1, .int a1), (3, .int x2)]) G dX5_pupils_34 rfl hl (Nat.le_of_ble_eq_true rfl) rfl (fun ls hl => ?_)
          refine g_iinc (v := x2 + 1) (lv' := [(3, .int (x2 + 1)), (2, .int (x1 ||| x3)), (0, .ref a0), (1, .int a1)]) G dX5_pupils_35 hl (k := 3) rfl rfl (Nat.le_of_ble_eq_true rfl) rfl (fun ls hl => ?_)
          refine g_goto (tgt := 4) G dX5_pupils_38 rfl ?_
          exact ih4 _ _ _ _ _ hf hM ls (lv_sub hl [2, 3, 1, 0] rfl)
        refine g_icmp_ne (tgt := 32) G dX5_pupils_23 rfl (fun c2 => ?_) (fun c2 => ?_)
        · have hf := it_neg c2 hf
          refine g_iconst (v := 0) G dX5_pupils_32 rfl ?_
          exact J33 _ _ _ _ hf hM ls (lv_sub hl [0, 1, 3] rfl)
        · have hf := it_pos c2 hf
          refine g_iconst (v := 1) G dX5_pupils_26 rfl ?_
          refine g_iload_n G dX5_pupils_27 rfl (lv_at hl 3 rfl) ?_
          refine g_ishl G dX5_pupils_28 ?_
          refine g_goto (tgt := 33) G dX5_pupils_29 rfl ?_
          exact J33 _ _ _ _ hf hM ls (lv_sub hl [0, 1, 3] rfl)
  exact L4 FU _ _ _ _ _ hf hM ls (lv_sub hl [2, 3, 1, 0] rfl)
theorem pcy_X5_isBy : pcY yX5_isBy cX5_isBy 5 (Option.some Jvm.ClassFile.FieldType.boolean) 2 := ⟨q1463, q156, ⟨by decide +kernel, by decide +kernel, by decide +kernel⟩, Nat.le_of_ble_eq_true rfl⟩
noncomputable def fX5_isBy_L5 (a0 : Nat) (a2 : Int32) (k35 : Int32 → PH → Option (Bool × PH)) (s5 : Int32 → Int32 → PH → Option (Bool × PH)) (x2 : Int32) (x3 : Int32) (h2 : PH) : Option (Bool × PH) :=
  if (8 : Int32) ≤ x3 then
    k35 x2 h2
  else
    if x2 = ((-1) : Int32) then
      k35 x2 h2
    else
      if x2 = a2 then
        k35 x2 h2
      else
        vA (pF h2 a0 5 4) fun p1 =>
        ob (pLd h2 p1 0 x2) fun v1 =>
        s5 v1 (x3 + 1) h2
noncomputable def fX5_isBy (a0 : Nat) (a1 : Int32) (a2 : Int32) (h : PH) : Option (Bool × PH) :=
  jn (fun (x1 : Int32) (h1 : PH) =>
    if x1 = a2 then
      some (true, h1)
    else
      some (false, h1)) fun k35 =>
  fx (fX5_isBy_L5 a0 a2 k35) (fun _ _ _ => none) FU a1 0 h
set_option maxHeartbeats 1000000 in
theorem kX5_isBy {l : Launch} {D : PD} {A : Nat → Prop} {cap : Nat × Nat} {a0 : Nat} {a1 : Int32} {a2 : Int32} {h h' : PH} {r : Bool} (hf : fX5_isBy a0 a1 a2 h = some (r, h')) : CMet l D A cap yX5_isBy cX5_isBy 5 (Option.some Jvm.ClassFile.FieldType.boolean) 1 [.ref a0, .int a1, .int a2] h h' (some (.int (bI r))) := by
  unfold fX5_isBy at hf
  refine p_head (own := RX5) (ini := false) (pn_X5 rfl) rfl (fun q => by cases q) (Nat.le_of_ble_eq_true rfl) (fun m Z cx sx H0 ls X hM hl => ?_)
  have G := X.g
  have hl : lv_has ls 5 [(0, .ref a0), (1, .int a1), (2, .int a2)] := hl
  refine g_iload_n G dX5_isBy_0 rfl (lv_at hl 1 rfl) ?_
  refine g_istore_n (i := 3) (lv' := [(3, .int a1), (0, .ref a0), (1, .int a1), (2, .int a2)]) G dX5_isBy_1 rfl hl (Nat.le_of_ble_eq_true rfl) rfl (fun ls hl => ?_)
  refine g_iconst (v := 0) G dX5_isBy_2 rfl ?_
  refine g_istore (lv' := [(4, .int 0), (3, .int a1), (0, .ref a0), (1, .int a1), (2, .int a2)]) G dX5_isBy_3 hl (Nat.le_of_ble_eq_true rfl) rfl (fun ls hl => ?_)
  obtain ⟨k35, ek35, hf⟩ := jn_open hf
  have K35 : ∀ (x1 : Int32) (h1 : PH) (H : Heap) (locs : List Loc), k35 x1 h1 = some (r, h') → PI D A cap H0 h1 H locs → ∀ ls : Array Slot, lv_has ls 5 [(2, .int a2), (3, .int x1)] → Z H locs (cx H) (sx H) (F0 m 35 ls []) := by
    intro x1 h1 H locs hf hM ls hl
    rw [ek35] at hf
    refine g_iload_n G dX5_isBy_35 rfl (lv_at hl 1 rfl) ?_
    refine g_iload_n G dX5_isBy_36 rfl (lv_at hl 0 rfl) ?_
    refine g_icmp_ne (tgt := 44) G dX5_isBy_37 rfl (fun c1 => ?_) (fun c1 => ?_)
    · have hf := it_neg c1 hf
      refine g_iconst (v := 0) G dX5_isBy_44 rfl ?_
      exact p_zret X hM hf dX5_isBy_45
    · have hf := it_pos c1 hf
      refine g_iconst (v := 1) G dX5_isBy_40 rfl ?_
      refine g_goto (tgt := 45) G dX5_isBy_41 rfl ?_
      exact p_zret X hM hf dX5_isBy_45
  have L5 : ∀ (n : Nat) (x2 : Int32) (x3 : Int32) (h2 : PH) (H : Heap) (locs : List Loc), fx (fX5_isBy_L5 a0 a2 k35) (fun _ _ _ => none) n x2 x3 h2 = some (r, h') → PI D A cap H0 h2 H locs → ∀ ls : Array Slot, lv_has ls 5 [(0, .ref a0), (2, .int a2), (3, .int x2), (4, .int x3)] → Z H locs (cx H) (sx H) (F0 m 5 ls []) := by
    intro n
    induction n with
    | zero => intro x2 x3 h2 H locs hf; exact absurd hf (by intro q; cases q)
    | succ n ih5 =>
      intro x2 x3 h2 H locs hf hM ls hl
      rw [fx_s] at hf
      generalize fx (fX5_isBy_L5 a0 a2 k35) (fun _ _ _ => none) n = s5 at hf ih5
      unfold fX5_isBy_L5 at hf
      refine g_iload G dX5_isBy_5 (lv_at hl 3 rfl) ?_
      refine g_bipush (v := 8) G dX5_isBy_7 rfl ?_
      refine g_icmp_ge (tgt := 35) G dX5_isBy_9 rfl (fun c2 => ?_) (fun c2 => ?_)
      · have hf := it_pos c2 hf
        exact K35 _ _ _ _ hf hM ls (lv_sub hl [1, 2] rfl)
      · have hf := it_neg c2 hf
        refine g_iload_n G dX5_isBy_12 rfl (lv_at hl 2 rfl) ?_
        refine g_iconst (v := (-1)) G dX5_isBy_13 rfl ?_
        refine g_icmp_eq (tgt := 35) G dX5_isBy_14 rfl (fun c3 => ?_) (fun c3 => ?_)
        · have hf := it_pos c3 hf
          exact K35 _ _ _ _ hf hM ls (lv_sub hl [1, 2] rfl)
        · have hf := it_neg c3 hf
          refine g_iload_n G dX5_isBy_17 rfl (lv_at hl 2 rfl) ?_
          refine g_iload_n G dX5_isBy_18 rfl (lv_at hl 1 rfl) ?_
          refine g_icmp_eq (tgt := 35) G dX5_isBy_19 rfl (fun c4 => ?_) (fun c4 => ?_)
          · have hf := it_pos c4 hf
            exact K35 _ _ _ _ hf hM ls (lv_sub hl [1, 2] rfl)
          · have hf := it_neg c4 hf
            refine g_aload_n G dX5_isBy_22 rfl (lv_at hl 0 rfl) ?_
            obtain ⟨p1, g1, hf⟩ := vA_open hf
            refine p_get (k := 4) X hM pc_5 (by decide) q404 rfl g1 dX5_isBy_23 ?_
            refine g_iload_n G dX5_isBy_26 rfl (lv_at hl 2 rfl) ?_
            obtain ⟨v1, g2, hf⟩ := ob_open hf
            refine p_iald X hM g2 dX5_isBy_27 ?_
            refine g_istore_n (i := 3) (lv' := [(3, .int v1), (0, .ref a0), (2, .int a2), (4, .int x3)]) G dX5_isBy_28 rfl hl (Nat.le_of_ble_eq_true rfl) rfl (fun ls hl => ?_)
            refine g_iinc (v := x3 + 1) (lv' := [(4, .int (x3 + 1)), (3, .int v1), (0, .ref a0), (2, .int a2)]) G dX5_isBy_29 hl (k := 3) rfl rfl (Nat.le_of_ble_eq_true rfl) rfl (fun ls hl => ?_)
            refine g_goto (tgt := 5) G dX5_isBy_32 rfl ?_
            exact ih5 _ _ _ _ _ hf hM ls (lv_sub hl [2, 3, 1, 0] rfl)
  exact L5 FU _ _ _ _ _ hf hM ls (lv_sub hl [2, 4, 1, 0] rfl)
theorem pcy_X5_marks : pcY yX5_marks cX5_marks 4 (Option.some Jvm.ClassFile.FieldType.int) 1 := ⟨q1310, q156, ⟨by decide +kernel, by decide +kernel, by decide +kernel⟩, Nat.le_of_ble_eq_true rfl⟩
noncomputable def fX5_marks_L4 (a0 : Nat) (a1 : Int32) (s4 : Int32 → Int32 → PH → Option (Int32 × PH)) (x1 : Int32) (x2 : Int32) (h1 : PH) : Option (Int32 × PH) :=
  vA (pF h1 a0 5 11) fun p1 =>
  ckc (pCls h1 p1) 0 <|
  bnd (fX0_facts p1 h1) fun r1 h2 =>
  if r1 ≤ x2 then
    some (x1, h2)
  else
    vA (pF h2 a0 5 5) fun p2 =>
    ob (pLd h2 p2 0 a1) fun v1 =>
    bnd (fX0_has v1 x2 h2) fun r2 h3 =>
    jn (fun (x3 : Int32) (h4 : PH) =>
      s4 (x1 + x3) (x2 + 1) h4) fun j66 =>
    if (bI r2) = 0 then
      vA (pF h3 a0 5 6) fun p3 =>
      ob (pLd h3 p3 0 a1) fun v2 =>
      bnd (fX0_has v2 x2 h3) fun r3 h5 =>
      if (bI r3) = 0 then
        j66 0 h5
      else
        vA (pF h5 a0 5 11) fun p4 =>
        ckc (pCls h5 p4) 0 <|
        bnd (fX0_worthOf p4 x2 h5) fun r4 h6 =>
        j66 (-r4) h6
    else
      vA (pF h3 a0 5 11) fun p5 =>
      ckc (pCls h3 p5) 0 <|
      bnd (fX0_worthOf p5 x2 h3) fun r5 h7 =>
      j66 r5 h7
noncomputable def fX5_marks (a0 : Nat) (a1 : Int32) (h : PH) : Option (Int32 × PH) :=
  fx (fX5_marks_L4 a0 a1) (fun _ _ _ => none) FU 0 0 h
set_option maxHeartbeats 1000000 in
theorem kX5_marks {l : Launch} {D : PD} {A : Nat → Prop} {cap : Nat × Nat} {a0 : Nat} {a1 : Int32} {h h' : PH} {r : Int32} (hf : fX5_marks a0 a1 h = some (r, h')) : CMet l D A cap yX5_marks cX5_marks 4 (Option.some Jvm.ClassFile.FieldType.int) 5 [.ref a0, .int a1] h h' (some (.int r)) := by
  unfold fX5_marks at hf
  refine p_head (own := RX5) (ini := false) (pn_X5 rfl) rfl (fun q => by cases q) (Nat.le_of_ble_eq_true rfl) (fun m Z cx sx H0 ls X hM hl => ?_)
  have G := X.g
  have hl : lv_has ls 4 [(0, .ref a0), (1, .int a1)] := hl
  refine g_iconst (v := 0) G dX5_marks_0 rfl ?_
  refine g_istore_n (i := 2) (lv' := [(2, .int 0), (0, .ref a0), (1, .int a1)]) G dX5_marks_1 rfl hl (Nat.le_of_ble_eq_true rfl) rfl (fun ls hl => ?_)
  refine g_iconst (v := 0) G dX5_marks_2 rfl ?_
  refine g_istore_n (i := 3) (lv' := [(3, .int 0), (2, .int 0), (0, .ref a0), (1, .int a1)]) G dX5_marks_3 rfl hl (Nat.le_of_ble_eq_true rfl) rfl (fun ls hl => ?_)
  have L4 : ∀ (n : Nat) (x1 : Int32) (x2 : Int32) (h1 : PH) (H : Heap) (locs : List Loc), fx (fX5_marks_L4 a0 a1) (fun _ _ _ => none) n x1 x2 h1 = some (r, h') → PI D A cap H0 h1 H locs → ∀ ls : Array Slot, lv_has ls 4 [(0, .ref a0), (1, .int a1), (2, .int x1), (3, .int x2)] → Z H locs (cx H) (sx H) (F0 m 4 ls []) := by
    intro n
    induction n with
    | zero => intro x1 x2 h1 H locs hf; exact absurd hf (by intro q; cases q)
    | succ n ih4 =>
      intro x1 x2 h1 H locs hf hM ls hl
      rw [fx_s] at hf
      generalize fx (fX5_marks_L4 a0 a1) (fun _ _ _ => none) n = s4 at hf ih4
      unfold fX5_marks_L4 at hf
      refine g_iload_n G dX5_marks_4 rfl (lv_at hl 3 rfl) ?_
      refine g_aload_n G dX5_marks_5 rfl (lv_at hl 0 rfl) ?_
      obtain ⟨p1, g1, hf⟩ := vA_open hf
      refine p_get (k := 11) X hM pc_5 (by decide) q416 rfl g1 dX5_marks_6 ?_
      obtain ⟨b1, hf⟩ := ckc_open hf
      obtain ⟨r1, h2, g2, hf⟩ := bnd_open hf
      refine p_callVN_r (ci := 0) (As := []) (rest := [.int x2]) X hM hl rfl b1 pcy_X0_facts q1311 q1225 qs35 (kX0_facts g2) rfl (Nat.le_of_ble_eq_true rfl) (Nat.le_of_ble_eq_true rfl) rfl dX5_marks_9 (fun H locs hM => ?_)
      refine g_icmp_ge (tgt := 74) G dX5_marks_12 rfl (fun c1 => ?_) (fun c1 => ?_)
      · have hf := it_pos c1 hf
        refine g_iload_n G dX5_marks_74 rfl (lv_at hl 2 rfl) ?_
        exact p_iret X hM hf dX5_marks_75
      · have hf := it_neg c1 hf
        refine g_iload_n G dX5_marks_15 rfl (lv_at hl 2 rfl) ?_
        refine g_aload_n G dX5_marks_16 rfl (lv_at hl 0 rfl) ?_
        obtain ⟨p2, g3, hf⟩ := vA_open hf
        refine p_get (k := 5) X hM pc_5 (by decide) q406 rfl g3 dX5_marks_17 ?_
        refine g_iload_n G dX5_marks_20 rfl (lv_at hl 1 rfl) ?_
        obtain ⟨v1, g4, hf⟩ := ob_open hf
        refine p_iald X hM g4 dX5_marks_21 ?_
        refine g_iload_n G dX5_marks_22 rfl (lv_at hl 3 rfl) ?_
        obtain ⟨r2, h3, g5, hf⟩ := bnd_open hf
        refine p_callSN_r (As := [.int v1, .int x2]) (rest := [.int x1]) X hM hl pcy_X0_has q1285 q914 (kX0_has g5) rfl (Nat.le_of_ble_eq_true rfl) (Nat.le_of_ble_eq_true rfl) rfl dX5_marks_23 (fun H locs hM => ?_)
        obtain ⟨j66, ej66, hf⟩ := jn_open hf
        have J66 : ∀ (x3 : Int32) (h4 : PH) (H : Heap) (locs : List Loc), j66 x3 h4 = some (r, h') → PI D A cap H0 h4 H locs → ∀ ls : Array Slot, lv_has ls 4 [(0, .ref a0), (1, .int a1), (3, .int x2)] → Z H locs (cx H) (sx H) (F0 m 66 ls [.int x3, .int x1]) := by
          intro x3 h4 H locs hf hM ls hl
          rw [ej66] at hf
          refine g_iadd G dX5_marks_66 ?_
          refine g_istore_n (i := 2) (lv' := [(2, .int (x1 + x3)), (0, .ref a0), (1, .int a1), (3, .int x2)]) G dX5_marks_67 rfl hl (Nat.le_of_ble_eq_true rfl) rfl (fun ls hl => ?_)
          refine g_iinc (v := x2 + 1) (lv' := [(3, .int (x2 + 1)), (2, .int (x1 + x3)), (0, .ref a0), (1, .int a1)]) G dX5_marks_68 hl (k := 3) rfl rfl (Nat.le_of_ble_eq_true rfl) rfl (fun ls hl => ?_)
          refine g_goto (tgt := 4) G dX5_marks_71 rfl ?_
          exact ih4 _ _ _ _ _ hf hM ls (lv_sub hl [2, 3, 1, 0] rfl)
        refine g_if_eq (tgt := 40) G dX5_marks_26 rfl (fun c2 => ?_) (fun c2 => ?_)
        · have hf := it_pos c2 hf
          refine g_aload_n G dX5_marks_40 rfl (lv_at hl 0 rfl) ?_
          obtain ⟨p3, g6, hf⟩ := vA_open hf
          refine p_get (k := 6) X hM pc_5 (by decide) q408 rfl g6 dX5_marks_41 ?_
          refine g_iload_n G dX5_marks_44 rfl (lv_at hl 1 rfl) ?_
          obtain ⟨v2, g7, hf⟩ := ob_open hf
          refine p_iald X hM g7 dX5_marks_45 ?_
          refine g_iload_n G dX5_marks_46 rfl (lv_at hl 3 rfl) ?_
          obtain ⟨r3, h5, g8, hf⟩ := bnd_open hf
          refine p_callSN_r (As := [.int v2, .int x2]) (rest := [.int x1]) X hM hl pcy_X0_has q1285 q914 (kX0_has g8) rfl (Nat.le_of_ble_eq_true rfl) (Nat.le_of_ble_eq_true rfl) rfl dX5_marks_47 (fun H locs hM => ?_)
          refine g_if_eq (tgt := 65) G dX5_marks_50 rfl (fun c3 => ?_) (fun c3 => ?_)
          · have hf := it_pos c3 hf
            refine g_iconst (v := 0) G dX5_marks_65 rfl ?_
            exact J66 _ _ _ _ hf hM ls (lv_sub hl [0, 1, 3] rfl)
          · have hf := it_neg c3 hf
            refine g_aload_n G dX5_marks_53 rfl (lv_at hl 0 rfl) ?_
            obtain ⟨p4, g9, hf⟩ := vA_open hf
            refine p_get (k := 11) X hM pc_5 (by decide) q416 rfl g9 dX5_marks_54 ?_
            refine g_iload_n G dX5_marks_57 rfl (lv_at hl 3 rfl) ?_
            obtain ⟨b2, hf⟩ := ckc_open hf
            obtain ⟨r4, h6, g10, hf⟩ := bnd_open hf
            refine p_callVN_r (ci := 0) (As := [.int x2]) (rest := [.int x1]) X hM hl rfl b2 pcy_X0_worthOf q1312 q1275 qs37 (kX0_worthOf g10) rfl (Nat.le_of_ble_eq_true rfl) (Nat.le_of_ble_eq_true rfl) rfl dX5_marks_58 (fun H locs hM => ?_)
            refine g_ineg G dX5_marks_61 ?_
            refine g_goto (tgt := 66) G dX5_marks_62 rfl ?_
            exact J66 _ _ _ _ hf hM ls (lv_sub hl [0, 1, 3] rfl)
        · have hf := it_neg c2 hf
          refine g_aload_n G dX5_marks_29 rfl (lv_at hl 0 rfl) ?_
          obtain ⟨p5, g11, hf⟩ := vA_open hf
          refine p_get (k := 11) X hM pc_5 (by decide) q416 rfl g11 dX5_marks_30 ?_
          refine g_iload_n G dX5_marks_33 rfl (lv_at hl 3 rfl) ?_
          obtain ⟨b3, hf⟩ := ckc_open hf
          obtain ⟨r5, h7, g12, hf⟩ := bnd_open hf
          refine p_callVN_r (ci := 0) (As := [.int x2]) (rest := [.int x1]) X hM hl rfl b3 pcy_X0_worthOf q1312 q1275 qs37 (kX0_worthOf g12) rfl (Nat.le_of_ble_eq_true rfl) (Nat.le_of_ble_eq_true rfl) rfl dX5_marks_34 (fun H locs hM => ?_)
          refine g_goto (tgt := 66) G dX5_marks_37 rfl ?_
          exact J66 _ _ _ _ hf hM ls (lv_sub hl [0, 1, 3] rfl)
  exact L4 FU _ _ _ _ _ hf hM ls (lv_sub hl [2, 3, 1, 0] rfl)
theorem pcy_X5_tells : pcY yX5_tells cX5_tells 5 none 2 := ⟨q1446, q156, ⟨by decide +kernel, by decide +kernel, by decide +kernel⟩, Nat.le_of_ble_eq_true rfl⟩
noncomputable def fX5_tells_L19 (a0 : Nat) (k48 : PH → Option (PH)) (s19 : Int32 → PH → Option (PH)) (x1 : Int32) (h9 : PH) : Option (PH) :=
  if (30 : Int32) ≤ x1 then
    k48 h9
  else
    vA (pF h9 a0 5 8) fun p6 =>
    vA (pF h9 a0 5 8) fun p7 =>
    ob (pLdQ h9 p7 6 x1) fun q5 =>
    qS q5 fun n5 =>
    ob (pArr h9 n5 0) fun b2 =>
    bnv (pStQ h9 p6 6 (x1 - 1) (some n5)) fun h10 =>
    s19 (x1 + 1) h10
noncomputable def fX5_tells (a0 : Nat) (a1 : Int32) (a2 : Int32) (h : PH) : Option (PH) :=
  vI (pF h a0 5 3) fun v1 =>
  jn (fun (h1 : PH) =>
    vA (pF h1 a0 5 8) fun p1 =>
    vI (pF h1 a0 5 3) fun v2 =>
    ob (pLdQ h1 p1 6 v2) fun q1 =>
    vI (pF h1 a0 5 0) fun v3 =>
    qS q1 fun n1 =>
    bnv (pSt h1 n1 0 0 v3) fun h2 =>
    vA (pF h2 a0 5 8) fun p2 =>
    vI (pF h2 a0 5 3) fun v4 =>
    ob (pLdQ h2 p2 6 v4) fun q2 =>
    qS q2 fun n2 =>
    bnv (pSt h2 n2 0 1 a1) fun h3 =>
    vA (pF h3 a0 5 8) fun p3 =>
    vI (pF h3 a0 5 3) fun v5 =>
    ob (pLdQ h3 p3 6 v5) fun q3 =>
    qS q3 fun n3 =>
    bnv (pSt h3 n3 0 2 a2) fun h4 =>
    vI (pF h4 a0 5 3) fun v6 =>
    bnv (pPut h4 a0 5 3 (.int (v6 + 1))) fun h5 =>
    some h5) fun j66 =>
  if v1 = (30 : Int32) then
    vA (pF h a0 5 8) fun p4 =>
    ob (pLdQ h p4 6 0) fun q4 =>
    jn (fun (h6 : PH) =>
      vA (pF h6 a0 5 8) fun p5 =>
      qS q4 fun n4 =>
      ob (pArr h6 n4 0) fun b1 =>
      bnv (pStQ h6 p5 6 29 (some n4)) fun h7 =>
      vI (pF h7 a0 5 3) fun v7 =>
      bnv (pPut h7 a0 5 3 (.int (v7 - 1))) fun h8 =>
      j66 h8) fun k48 =>
    fx (fX5_tells_L19 a0 k48) (fun _ _ => none) FU 1 h
  else
    j66 h
set_option maxHeartbeats 1000000 in
theorem kX5_tells {l : Launch} {D : PD} {A : Nat → Prop} {cap : Nat × Nat} {a0 : Nat} {a1 : Int32} {a2 : Int32} {h h' : PH} (hf : fX5_tells a0 a1 a2 h = some h') : CMet l D A cap yX5_tells cX5_tells 5 none 1 [.ref a0, .int a1, .int a2] h h' (none) := by
  unfold fX5_tells at hf
  refine p_head (own := RX5) (ini := false) (pn_X5 rfl) rfl (fun q => by cases q) (Nat.le_of_ble_eq_true rfl) (fun m Z cx sx H0 ls X hM hl => ?_)
  have G := X.g
  have hl : lv_has ls 5 [(0, .ref a0), (1, .int a1), (2, .int a2)] := hl
  refine g_aload_n G dX5_tells_0 rfl (lv_at hl 0 rfl) ?_
  obtain ⟨v1, g1, hf⟩ := vI_open hf
  refine p_get (k := 3) X hM pc_5 (by decide) q402 rfl g1 dX5_tells_1 ?_
  refine g_bipush (v := 30) G dX5_tells_4 rfl ?_
  obtain ⟨j66, ej66, hf⟩ := jn_open hf
  have J66 : ∀ (h1 : PH) (H : Heap) (locs : List Loc), j66 h1 = some h' → PI D A cap H0 h1 H locs → ∀ ls : Array Slot, lv_has ls 5 [(0, .ref a0), (1, .int a1), (2, .int a2)] → Z H locs (cx H) (sx H) (F0 m 66 ls []) := by
    intro h1 H locs hf hM ls hl
    rw [ej66] at hf
    refine g_aload_n G dX5_tells_66 rfl (lv_at hl 0 rfl) ?_
    obtain ⟨p1, g2, hf⟩ := vA_open hf
    refine p_get (k := 8) X hM pc_5 (by decide) q412 rfl g2 dX5_tells_67 ?_
    refine g_aload_n G dX5_tells_70 rfl (lv_at hl 0 rfl) ?_
    obtain ⟨v2, g3, hf⟩ := vI_open hf
    refine p_get (k := 3) X hM pc_5 (by decide) q402 rfl g3 dX5_tells_71 ?_
    obtain ⟨q1, g4, hf⟩ := ob_open hf
    refine p_aald X hM (kd := 6) (by decide) rfl g4 dX5_tells_74 ?_
    refine g_iconst (v := 0) G dX5_tells_75 rfl ?_
    refine g_aload_n G dX5_tells_76 rfl (lv_at hl 0 rfl) ?_
    obtain ⟨v3, g5, hf⟩ := vI_open hf
    refine p_get (k := 0) X hM pc_5 (by decide) q396 rfl g5 dX5_tells_77 ?_
    obtain ⟨n1, e1, hfq⟩ := qS_open hf
    clear hf; subst e1; have hf := hfq; clear hfq
    obtain ⟨h2, g6, hf⟩ := bnv_open hf
    refine p_iast X hM g6 dX5_tells_80 (fun H locs hM => ?_)
    refine g_aload_n G dX5_tells_81 rfl (lv_at hl 0 rfl) ?_
    obtain ⟨p2, g7, hf⟩ := vA_open hf
    refine p_get (k := 8) X hM pc_5 (by decide) q412 rfl g7 dX5_tells_82 ?_
    refine g_aload_n G dX5_tells_85 rfl (lv_at hl 0 rfl) ?_
    obtain ⟨v4, g8, hf⟩ := vI_open hf
    refine p_get (k := 3) X hM pc_5 (by decide) q402 rfl g8 dX5_tells_86 ?_
    obtain ⟨q2, g9, hf⟩ := ob_open hf
    refine p_aald X hM (kd := 6) (by decide) rfl g9 dX5_tells_89 ?_
    refine g_iconst (v := 1) G dX5_tells_90 rfl ?_
    refine g_iload_n G dX5_tells_91 rfl (lv_at hl 1 rfl) ?_
    obtain ⟨n2, e2, hfq⟩ := qS_open hf
    clear hf; subst e2; have hf := hfq; clear hfq
    obtain ⟨h3, g10, hf⟩ := bnv_open hf
    refine p_iast X hM g10 dX5_tells_92 (fun H locs hM => ?_)
    refine g_aload_n G dX5_tells_93 rfl (lv_at hl 0 rfl) ?_
    obtain ⟨p3, g11, hf⟩ := vA_open hf
    refine p_get (k := 8) X hM pc_5 (by decide) q412 rfl g11 dX5_tells_94 ?_
    refine g_aload_n G dX5_tells_97 rfl (lv_at hl 0 rfl) ?_
    obtain ⟨v5, g12, hf⟩ := vI_open hf
    refine p_get (k := 3) X hM pc_5 (by decide) q402 rfl g12 dX5_tells_98 ?_
    obtain ⟨q3, g13, hf⟩ := ob_open hf
    refine p_aald X hM (kd := 6) (by decide) rfl g13 dX5_tells_101 ?_
    refine g_iconst (v := 2) G dX5_tells_102 rfl ?_
    refine g_iload_n G dX5_tells_103 rfl (lv_at hl 2 rfl) ?_
    obtain ⟨n3, e3, hfq⟩ := qS_open hf
    clear hf; subst e3; have hf := hfq; clear hfq
    obtain ⟨h4, g14, hf⟩ := bnv_open hf
    refine p_iast X hM g14 dX5_tells_104 (fun H locs hM => ?_)
    refine g_aload_n G dX5_tells_105 rfl (lv_at hl 0 rfl) ?_
    refine g_dup G dX5_tells_106 rfl ?_
    obtain ⟨v6, g15, hf⟩ := vI_open hf
    refine p_get (k := 3) X hM pc_5 (by decide) q402 rfl g15 dX5_tells_107 ?_
    refine g_iconst (v := 1) G dX5_tells_110 rfl ?_
    refine g_iadd G dX5_tells_111 ?_
    obtain ⟨h5, g16, hf⟩ := bnv_open hf
    refine p_put (k := 3) X hM pc_5 (by decide) q402 rfl rfl rfl rfl g16 dX5_tells_112 (fun H locs hM => ?_)
    exact p_vret X hM hf dX5_tells_115
  refine g_icmp_ne (tgt := 66) G dX5_tells_6 rfl (fun c1 => ?_) (fun c1 => ?_)
  · have hf := it_neg c1 hf
    exact J66 _ _ _ hf hM ls (lv_sub hl [0, 1, 2] rfl)
  · have hf := it_pos c1 hf
    refine g_aload_n G dX5_tells_9 rfl (lv_at hl 0 rfl) ?_
    obtain ⟨p4, g17, hf⟩ := vA_open hf
    refine p_get (k := 8) X hM pc_5 (by decide) q412 rfl g17 dX5_tells_10 ?_
    refine g_iconst (v := 0) G dX5_tells_13 rfl ?_
    obtain ⟨q4, g18, hf⟩ := ob_open hf
    refine p_aald X hM (kd := 6) (by decide) rfl g18 dX5_tells_14 ?_
    refine g_astore_nQ (i := 3) (lv' := [(3, va_rf q4), (0, .ref a0), (1, .int a1), (2, .int a2)]) G dX5_tells_15 rfl hl (Nat.le_of_ble_eq_true rfl) (by simp [cat_q, cat_i, cat_l, cat_r]) (fun ls hl => ?_)
    refine g_iconst (v := 1) G dX5_tells_16 rfl ?_
    refine g_istore (lv' := [(4, .int 1), (3, va_rf q4), (0, .ref a0), (1, .int a1), (2, .int a2)]) G dX5_tells_17 hl (Nat.le_of_ble_eq_true rfl) (by simp [cat_q, cat_i, cat_l, cat_r]) (fun ls hl => ?_)
    obtain ⟨k48, ek48, hf⟩ := jn_open hf
    have K48 : ∀ (h6 : PH) (H : Heap) (locs : List Loc), k48 h6 = some h' → PI D A cap H0 h6 H locs → ∀ ls : Array Slot, lv_has ls 5 [(0, .ref a0), (1, .int a1), (2, .int a2), (3, va_rf q4)] → Z H locs (cx H) (sx H) (F0 m 48 ls []) := by
      intro h6 H locs hf hM ls hl
      rw [ek48] at hf
      refine g_aload_n G dX5_tells_48 rfl (lv_at hl 0 rfl) ?_
      obtain ⟨p5, g19, hf⟩ := vA_open hf
      refine p_get (k := 8) X hM pc_5 (by decide) q412 rfl g19 dX5_tells_49 ?_
      refine g_bipush (v := 29) G dX5_tells_52 rfl ?_
      refine g_aload_nQ G dX5_tells_54 rfl (lv_at hl 3 rfl) ?_
      obtain ⟨n4, e4, hfq⟩ := qS_open hf
      clear hf; subst e4; have hf := hfq; clear hfq
      obtain ⟨b1, g21, hf⟩ := ob_open hf
      obtain ⟨h7, g20, hf⟩ := bnv_open hf
      refine p_aastI X hM g21 g20 dX5_tells_55 (fun H locs hM => ?_)
      refine g_aload_n G dX5_tells_56 rfl (lv_at hl 0 rfl) ?_
      refine g_dup G dX5_tells_57 rfl ?_
      obtain ⟨v7, g22, hf⟩ := vI_open hf
      refine p_get (k := 3) X hM pc_5 (by decide) q402 rfl g22 dX5_tells_58 ?_
      refine g_iconst (v := 1) G dX5_tells_61 rfl ?_
      refine g_isub G dX5_tells_62 ?_
      obtain ⟨h8, g23, hf⟩ := bnv_open hf
      refine p_put (k := 3) X hM pc_5 (by decide) q402 rfl rfl rfl rfl g23 dX5_tells_63 (fun H locs hM => ?_)
      exact J66 _ _ _ hf hM ls (lv_sub hl [0, 1, 2] rfl)
    have L19 : ∀ (n : Nat) (x1 : Int32) (h9 : PH) (H : Heap) (locs : List Loc), fx (fX5_tells_L19 a0 k48) (fun _ _ => none) n x1 h9 = some h' → PI D A cap H0 h9 H locs → ∀ ls : Array Slot, lv_has ls 5 [(0, .ref a0), (1, .int a1), (2, .int a2), (3, va_rf q4), (4, .int x1)] → Z H locs (cx H) (sx H) (F0 m 19 ls []) := by
      intro n
      induction n with
      | zero => intro x1 h9 H locs hf; exact absurd hf (by intro q; cases q)
      | succ n ih19 =>
        intro x1 h9 H locs hf hM ls hl
        rw [fx_s] at hf
        generalize fx (fX5_tells_L19 a0 k48) (fun _ _ => none) n = s19 at hf ih19
        unfold fX5_tells_L19 at hf
        refine g_iload G dX5_tells_19 (lv_at hl 4 rfl) ?_
        refine g_bipush (v := 30) G dX5_tells_21 rfl ?_
        refine g_icmp_ge (tgt := 48) G dX5_tells_23 rfl (fun c2 => ?_) (fun c2 => ?_)
        · have hf := it_pos c2 hf
          exact K48 _ _ _ hf hM ls (lv_sub hl [0, 1, 2, 3] rfl)
        · have hf := it_neg c2 hf
          refine g_aload_n G dX5_tells_26 rfl (lv_at hl 0 rfl) ?_
          obtain ⟨p6, g24, hf⟩ := vA_open hf
          refine p_get (k := 8) X hM pc_5 (by decide) q412 rfl g24 dX5_tells_27 ?_
          refine g_iload G dX5_tells_30 (lv_at hl 4 rfl) ?_
          refine g_iconst (v := 1) G dX5_tells_32 rfl ?_
          refine g_isub G dX5_tells_33 ?_
          refine g_aload_n G dX5_tells_34 rfl (lv_at hl 0 rfl) ?_
          obtain ⟨p7, g25, hf⟩ := vA_open hf
          refine p_get (k := 8) X hM pc_5 (by decide) q412 rfl g25 dX5_tells_35 ?_
          refine g_iload G dX5_tells_38 (lv_at hl 4 rfl) ?_
          obtain ⟨q5, g26, hf⟩ := ob_open hf
          refine p_aald X hM (kd := 6) (by decide) rfl g26 dX5_tells_40 ?_
          obtain ⟨n5, e5, hfq⟩ := qS_open hf
          clear hf; subst e5; have hf := hfq; clear hfq
          obtain ⟨b2, g28, hf⟩ := ob_open hf
          obtain ⟨h10, g27, hf⟩ := bnv_open hf
          refine p_aastI X hM g28 g27 dX5_tells_41 (fun H locs hM => ?_)
          refine g_iinc (v := x1 + 1) (lv' := [(4, .int (x1 + 1)), (0, .ref a0), (1, .int a1), (2, .int a2), (3, va_rf q4)]) G dX5_tells_42 hl (k := 4) rfl rfl (Nat.le_of_ble_eq_true rfl) (by simp [cat_q, cat_i, cat_l, cat_r]) (fun ls hl => ?_)
          refine g_goto (tgt := 19) G dX5_tells_45 rfl ?_
          exact ih19 _ _ _ _ hf hM ls (lv_sub hl [1, 2, 3, 4, 0] rfl)
    exact L19 FU _ _ _ _ hf hM ls (lv_sub hl [2, 3, 4, 1, 0] rfl)
theorem pcy_X5_beliefs : pcY yX5_beliefs cX5_beliefs 4 (Option.some Jvm.ClassFile.FieldType.int) 1 := ⟨q1237, q156, ⟨by decide +kernel, by decide +kernel, by decide +kernel⟩, Nat.le_of_ble_eq_true rfl⟩
noncomputable def fX5_beliefs_L4 (a0 : Nat) (a1 : Bool) (s4 : Int32 → Int32 → PH → Option (Int32 × PH)) (x1 : Int32) (x2 : Int32) (h1 : PH) : Option (Int32 × PH) :=
  vA (pF h1 a0 5 11) fun p1 =>
  ckc (pCls h1 p1) 0 <|
  bnd (fX0_people p1 h1) fun r1 h2 =>
  if r1 ≤ x2 then
    some (x1, h2)
  else
    jn (fun (x3 : Int32) (h3 : PH) =>
      bnd (fJ16_bitCount x3 h3) fun r2 h4 =>
      s4 (x1 + r2) (x2 + 1) h4) fun j35 =>
    if (bI a1) = 0 then
      vA (pF h2 a0 5 6) fun p2 =>
      ob (pLd h2 p2 0 x2) fun v1 =>
      j35 v1 h2
    else
      vA (pF h2 a0 5 5) fun p3 =>
      ob (pLd h2 p3 0 x2) fun v2 =>
      j35 v2 h2
noncomputable def fX5_beliefs (a0 : Nat) (a1 : Bool) (h : PH) : Option (Int32 × PH) :=
  fx (fX5_beliefs_L4 a0 a1) (fun _ _ _ => none) FU 0 0 h
set_option maxHeartbeats 1000000 in
theorem kX5_beliefs {l : Launch} {D : PD} {A : Nat → Prop} {cap : Nat × Nat} {a0 : Nat} {a1 : Bool} {h h' : PH} {r : Int32} (hf : fX5_beliefs a0 a1 h = some (r, h')) : CMet l D A cap yX5_beliefs cX5_beliefs 4 (Option.some Jvm.ClassFile.FieldType.int) 3 [.ref a0, .int (bI a1)] h h' (some (.int r)) := by
  unfold fX5_beliefs at hf
  refine p_head (own := RX5) (ini := false) (pn_X5 rfl) rfl (fun q => by cases q) (Nat.le_of_ble_eq_true rfl) (fun m Z cx sx H0 ls X hM hl => ?_)
  have G := X.g
  have hl : lv_has ls 4 [(0, .ref a0), (1, .int (bI a1))] := hl
  refine g_iconst (v := 0) G dX5_beliefs_0 rfl ?_
  refine g_istore_n (i := 2) (lv' := [(2, .int 0), (0, .ref a0), (1, .int (bI a1))]) G dX5_beliefs_1 rfl hl (Nat.le_of_ble_eq_true rfl) rfl (fun ls hl => ?_)
  refine g_iconst (v := 0) G dX5_beliefs_2 rfl ?_
  refine g_istore_n (i := 3) (lv' := [(3, .int 0), (2, .int 0), (0, .ref a0), (1, .int (bI a1))]) G dX5_beliefs_3 rfl hl (Nat.le_of_ble_eq_true rfl) rfl (fun ls hl => ?_)
  have L4 : ∀ (n : Nat) (x1 : Int32) (x2 : Int32) (h1 : PH) (H : Heap) (locs : List Loc), fx (fX5_beliefs_L4 a0 a1) (fun _ _ _ => none) n x1 x2 h1 = some (r, h') → PI D A cap H0 h1 H locs → ∀ ls : Array Slot, lv_has ls 4 [(0, .ref a0), (1, .int (bI a1)), (2, .int x1), (3, .int x2)] → Z H locs (cx H) (sx H) (F0 m 4 ls []) := by
    intro n
    induction n with
    | zero => intro x1 x2 h1 H locs hf; exact absurd hf (by intro q; cases q)
    | succ n ih4 =>
      intro x1 x2 h1 H locs hf hM ls hl
      rw [fx_s] at hf
      generalize fx (fX5_beliefs_L4 a0 a1) (fun _ _ _ => none) n = s4 at hf ih4
      unfold fX5_beliefs_L4 at hf
      refine g_iload_n G dX5_beliefs_4 rfl (lv_at hl 3 rfl) ?_
      refine g_aload_n G dX5_beliefs_5 rfl (lv_at hl 0 rfl) ?_
      obtain ⟨p1, g1, hf⟩ := vA_open hf
      refine p_get (k := 11) X hM pc_5 (by decide) q416 rfl g1 dX5_beliefs_6 ?_
      obtain ⟨b1, hf⟩ := ckc_open hf
      obtain ⟨r1, h2, g2, hf⟩ := bnd_open hf
      refine p_callVN_r (ci := 0) (As := []) (rest := [.int x2]) X hM hl rfl b1 pcy_X0_people q1206 q1208 qs34 (kX0_people g2) rfl (Nat.le_of_ble_eq_true rfl) (Nat.le_of_ble_eq_true rfl) rfl dX5_beliefs_9 (fun H locs hM => ?_)
      refine g_icmp_ge (tgt := 46) G dX5_beliefs_12 rfl (fun c1 => ?_) (fun c1 => ?_)
      · have hf := it_pos c1 hf
        refine g_iload_n G dX5_beliefs_46 rfl (lv_at hl 2 rfl) ?_
        exact p_iret X hM hf dX5_beliefs_47
      · have hf := it_neg c1 hf
        refine g_iload_n G dX5_beliefs_15 rfl (lv_at hl 2 rfl) ?_
        refine g_iload_n G dX5_beliefs_16 rfl (lv_at hl 1 rfl) ?_
        obtain ⟨j35, ej35, hf⟩ := jn_open hf
        have J35 : ∀ (x3 : Int32) (h3 : PH) (H : Heap) (locs : List Loc), j35 x3 h3 = some (r, h') → PI D A cap H0 h3 H locs → ∀ ls : Array Slot, lv_has ls 4 [(0, .ref a0), (1, .int (bI a1)), (3, .int x2)] → Z H locs (cx H) (sx H) (F0 m 35 ls [.int x3, .int x1]) := by
          intro x3 h3 H locs hf hM ls hl
          rw [ej35] at hf
          obtain ⟨r2, h4, g3, hf⟩ := bnd_open hf
          refine p_callS_r (As := [.int x3]) (rest := [.int x1]) X hM hl pcy_J16_bitCount q1238 q1229 (kJ16_bitCount g3) rfl (Nat.le_of_ble_eq_true rfl) (Nat.le_of_ble_eq_true rfl) rfl dX5_beliefs_35 (fun H locs hM => ?_)
          refine g_iadd G dX5_beliefs_38 ?_
          refine g_istore_n (i := 2) (lv' := [(2, .int (x1 + r2)), (0, .ref a0), (1, .int (bI a1)), (3, .int x2)]) G dX5_beliefs_39 rfl hl (Nat.le_of_ble_eq_true rfl) rfl (fun ls hl => ?_)
          refine g_iinc (v := x2 + 1) (lv' := [(3, .int (x2 + 1)), (2, .int (x1 + r2)), (0, .ref a0), (1, .int (bI a1))]) G dX5_beliefs_40 hl (k := 3) rfl rfl (Nat.le_of_ble_eq_true rfl) rfl (fun ls hl => ?_)
          refine g_goto (tgt := 4) G dX5_beliefs_43 rfl ?_
          exact ih4 _ _ _ _ _ hf hM ls (lv_sub hl [2, 3, 1, 0] rfl)
        refine g_if_eq (tgt := 29) G dX5_beliefs_17 rfl (fun c2 => ?_) (fun c2 => ?_)
        · have hf := it_pos c2 hf
          refine g_aload_n G dX5_beliefs_29 rfl (lv_at hl 0 rfl) ?_
          obtain ⟨p2, g4, hf⟩ := vA_open hf
          refine p_get (k := 6) X hM pc_5 (by decide) q408 rfl g4 dX5_beliefs_30 ?_
          refine g_iload_n G dX5_beliefs_33 rfl (lv_at hl 3 rfl) ?_
          obtain ⟨v1, g5, hf⟩ := ob_open hf
          refine p_iald X hM g5 dX5_beliefs_34 ?_
          exact J35 _ _ _ _ hf hM ls (lv_sub hl [0, 1, 3] rfl)
        · have hf := it_neg c2 hf
          refine g_aload_n G dX5_beliefs_20 rfl (lv_at hl 0 rfl) ?_
          obtain ⟨p3, g6, hf⟩ := vA_open hf
          refine p_get (k := 5) X hM pc_5 (by decide) q406 rfl g6 dX5_beliefs_21 ?_
          refine g_iload_n G dX5_beliefs_24 rfl (lv_at hl 3 rfl) ?_
          obtain ⟨v2, g7, hf⟩ := ob_open hf
          refine p_iald X hM g7 dX5_beliefs_25 ?_
          refine g_goto (tgt := 35) G dX5_beliefs_26 rfl ?_
          exact J35 _ _ _ _ hf hM ls (lv_sub hl [0, 1, 3] rfl)
  exact L4 FU _ _ _ _ _ hf hM ls (lv_sub hl [2, 3, 1, 0] rfl)
theorem pcy_X5_stands : pcY yX5_stands cX5_stands 3 (Option.some Jvm.ClassFile.FieldType.int) 2 := ⟨q1284, q156, ⟨by decide +kernel, by decide +kernel, by decide +kernel⟩, Nat.le_of_ble_eq_true rfl⟩
noncomputable def fX5_stands (a0 : Nat) (a1 : Int32) (a2 : Int32) (h : PH) : Option (Int32 × PH) :=
  vA (pF h a0 5 5) fun p1 =>
  ob (pLd h p1 0 a1) fun v1 =>
  bnd (fX0_has v1 a2 h) fun r1 h1 =>
  if (bI r1) = 0 then
    vA (pF h1 a0 5 6) fun p2 =>
    ob (pLd h1 p2 0 a1) fun v2 =>
    bnd (fX0_has v2 a2 h1) fun r2 h2 =>
    if (bI r2) = 0 then
      some (0, h2)
    else
      some (2, h2)
  else
    some (1, h1)
set_option maxHeartbeats 1000000 in
theorem kX5_stands {l : Launch} {D : PD} {A : Nat → Prop} {cap : Nat × Nat} {a0 : Nat} {a1 : Int32} {a2 : Int32} {h h' : PH} {r : Int32} (hf : fX5_stands a0 a1 a2 h = some (r, h')) : CMet l D A cap yX5_stands cX5_stands 3 (Option.some Jvm.ClassFile.FieldType.int) 2 [.ref a0, .int a1, .int a2] h h' (some (.int r)) := by
  unfold fX5_stands at hf
  refine p_head (own := RX5) (ini := false) (pn_X5 rfl) rfl (fun q => by cases q) (Nat.le_of_ble_eq_true rfl) (fun m Z cx sx H0 ls X hM hl => ?_)
  have G := X.g
  have hl : lv_has ls 3 [(0, .ref a0), (1, .int a1), (2, .int a2)] := hl
  refine g_aload_n G dX5_stands_0 rfl (lv_at hl 0 rfl) ?_
  obtain ⟨p1, g1, hf⟩ := vA_open hf
  refine p_get (k := 5) X hM pc_5 (by decide) q406 rfl g1 dX5_stands_1 ?_
  refine g_iload_n G dX5_stands_4 rfl (lv_at hl 1 rfl) ?_
  obtain ⟨v1, g2, hf⟩ := ob_open hf
  refine p_iald X hM g2 dX5_stands_5 ?_
  refine g_iload_n G dX5_stands_6 rfl (lv_at hl 2 rfl) ?_
  obtain ⟨r1, h1, g3, hf⟩ := bnd_open hf
  refine p_callSN_r (As := [.int v1, .int a2]) (rest := []) X hM hl pcy_X0_has q1285 q914 (kX0_has g3) rfl (Nat.le_of_ble_eq_true rfl) (Nat.le_of_ble_eq_true rfl) rfl dX5_stands_7 (fun H locs hM => ?_)
  refine g_if_eq (tgt := 17) G dX5_stands_10 rfl (fun c1 => ?_) (fun c1 => ?_)
  · have hf := it_pos c1 hf
    refine g_aload_n G dX5_stands_17 rfl (lv_at hl 0 rfl) ?_
    obtain ⟨p2, g4, hf⟩ := vA_open hf
    refine p_get (k := 6) X hM pc_5 (by decide) q408 rfl g4 dX5_stands_18 ?_
    refine g_iload_n G dX5_stands_21 rfl (lv_at hl 1 rfl) ?_
    obtain ⟨v2, g5, hf⟩ := ob_open hf
    refine p_iald X hM g5 dX5_stands_22 ?_
    refine g_iload_n G dX5_stands_23 rfl (lv_at hl 2 rfl) ?_
    obtain ⟨r2, h2, g6, hf⟩ := bnd_open hf
    refine p_callSN_r (As := [.int v2, .int a2]) (rest := []) X hM hl pcy_X0_has q1285 q914 (kX0_has g6) rfl (Nat.le_of_ble_eq_true rfl) (Nat.le_of_ble_eq_true rfl) rfl dX5_stands_24 (fun H locs hM => ?_)
    refine g_if_eq (tgt := 34) G dX5_stands_27 rfl (fun c2 => ?_) (fun c2 => ?_)
    · have hf := it_pos c2 hf
      refine g_iconst (v := 0) G dX5_stands_34 rfl ?_
      exact p_iret X hM hf dX5_stands_35
    · have hf := it_neg c2 hf
      refine g_iconst (v := 2) G dX5_stands_30 rfl ?_
      refine g_goto (tgt := 35) G dX5_stands_31 rfl ?_
      exact p_iret X hM hf dX5_stands_35
  · have hf := it_neg c1 hf
    refine g_iconst (v := 1) G dX5_stands_13 rfl ?_
    refine g_goto (tgt := 35) G dX5_stands_14 rfl ?_
    exact p_iret X hM hf dX5_stands_35
theorem pcy_X5_hears : pcY yX5_hears cX5_hears 3 none 2 := ⟨q1471, q156, ⟨by decide +kernel, by decide +kernel, by decide +kernel⟩, Nat.le_of_ble_eq_true rfl⟩
noncomputable def fX5_hears (a0 : Nat) (a1 : Int32) (a2 : Int32) (h : PH) : Option (PH) :=
  vA (pF h a0 5 5) fun p1 =>
  ob (pLd h p1 0 a1) fun v1 =>
  bnv (pSt h p1 0 a1 (v1 ||| ((1 : Int32) <<< (a2 &&& 31)))) fun h1 =>
  vA (pF h1 a0 5 6) fun p2 =>
  ob (pLd h1 p2 0 a1) fun v2 =>
  bnv (pSt h1 p2 0 a1 (v2 &&& (((1 : Int32) <<< (a2 &&& 31)) ^^^ (-1)))) fun h2 =>
  some h2
set_option maxHeartbeats 1000000 in
theorem kX5_hears {l : Launch} {D : PD} {A : Nat → Prop} {cap : Nat × Nat} {a0 : Nat} {a1 : Int32} {a2 : Int32} {h h' : PH} (hf : fX5_hears a0 a1 a2 h = some h') : CMet l D A cap yX5_hears cX5_hears 3 none 1 [.ref a0, .int a1, .int a2] h h' (none) := by
  unfold fX5_hears at hf
  refine p_head (own := RX5) (ini := false) (pn_X5 rfl) rfl (fun q => by cases q) (Nat.le_of_ble_eq_true rfl) (fun m Z cx sx H0 ls X hM hl => ?_)
  have G := X.g
  have hl : lv_has ls 3 [(0, .ref a0), (1, .int a1), (2, .int a2)] := hl
  refine g_aload_n G dX5_hears_0 rfl (lv_at hl 0 rfl) ?_
  obtain ⟨p1, g1, hf⟩ := vA_open hf
  refine p_get (k := 5) X hM pc_5 (by decide) q406 rfl g1 dX5_hears_1 ?_
  refine g_iload_n G dX5_hears_4 rfl (lv_at hl 1 rfl) ?_
  refine g_dup2_11 G dX5_hears_5 rfl rfl ?_
  obtain ⟨v1, g2, hf⟩ := ob_open hf
  refine p_iald X hM g2 dX5_hears_6 ?_
  refine g_iconst (v := 1) G dX5_hears_7 rfl ?_
  refine g_iload_n G dX5_hears_8 rfl (lv_at hl 2 rfl) ?_
  refine g_ishl G dX5_hears_9 ?_
  refine g_ior G dX5_hears_10 ?_
  obtain ⟨h1, g3, hf⟩ := bnv_open hf
  refine p_iast X hM g3 dX5_hears_11 (fun H locs hM => ?_)
  refine g_aload_n G dX5_hears_12 rfl (lv_at hl 0 rfl) ?_
  obtain ⟨p2, g4, hf⟩ := vA_open hf
  refine p_get (k := 6) X hM pc_5 (by decide) q408 rfl g4 dX5_hears_13 ?_
  refine g_iload_n G dX5_hears_16 rfl (lv_at hl 1 rfl) ?_
  refine g_dup2_11 G dX5_hears_17 rfl rfl ?_
  obtain ⟨v2, g5, hf⟩ := ob_open hf
  refine p_iald X hM g5 dX5_hears_18 ?_
  refine g_iconst (v := 1) G dX5_hears_19 rfl ?_
  refine g_iload_n G dX5_hears_20 rfl (lv_at hl 2 rfl) ?_
  refine g_ishl G dX5_hears_21 ?_
  refine g_iconst (v := (-1)) G dX5_hears_22 rfl ?_
  refine g_ixor G dX5_hears_23 ?_
  refine g_iand G dX5_hears_24 ?_
  obtain ⟨h2, g6, hf⟩ := bnv_open hf
  refine p_iast X hM g6 dX5_hears_25 (fun H locs hM => ?_)
  exact p_vret X hM hf dX5_hears_26
