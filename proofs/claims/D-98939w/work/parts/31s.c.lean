/-! PART 31s.c (printed by dc.py, mkc.py) -/
set_option maxRecDepth 100000
theorem pcy_J6_isLatin1 : pcY yJ6_isLatin1 cJ6_isLatin1 1 (Option.some Jvm.ClassFile.FieldType.boolean) 0 := ⟨q662, q158, ⟨by decide +kernel, by decide +kernel, by decide +kernel⟩, Nat.le_of_ble_eq_true rfl⟩
noncomputable def fJ6_isLatin1 (D : PD) (a0 : Nat) (h : PH) : Option (Bool × PH) :=
  vI (some (dS D 4)) fun v1 =>
  jn (fun (h1 : PH) =>
    some (false, h1)) fun j17 =>
  if v1 = 0 then
    j17 h
  else
    vI (pF h a0 22 1) fun v2 =>
    if v2 = 0 then
      some (true, h)
    else
      j17 h
set_option maxHeartbeats 1000000 in
theorem kJ6_isLatin1 {l : Launch} {D : PD} {A : Nat → Prop} {cap : Nat × Nat} {a0 : Nat} {h h' : PH} {r : Bool} (hf : fJ6_isLatin1 D a0 h = some (r, h')) : CMet l D A cap yJ6_isLatin1 cJ6_isLatin1 1 (Option.some Jvm.ClassFile.FieldType.boolean) 1 [.ref a0] h h' (some (.int (bI r))) := by
  unfold fJ6_isLatin1 at hf
  refine p_head (own := RJ6) (ini := false) (pn_J6 rfl) rfl (fun q => by cases q) (Nat.le_of_ble_eq_true rfl) (fun m Z cx sx H0 ls X hM hl => ?_)
  have G := X.g
  have hl : lv_has ls 1 [(0, .ref a0)] := hl
  obtain ⟨v1, g1, hf⟩ := vI_open hf
  refine p_gets X hM (i := 4) rfl q586 dJ6_isLatin1_0 ?_
  rw [Option.some.inj g1]
  obtain ⟨j17, ej17, hf⟩ := jn_open hf
  have J17 : ∀ (h1 : PH) (H : Heap) (locs : List Loc), j17 h1 = some (r, h') → PI D A cap H0 h1 H locs → ∀ ls : Array Slot, lv_has ls 1 [] → Z H locs (cx H) (sx H) (F0 m 17 ls []) := by
    intro h1 H locs hf hM ls hl
    rw [ej17] at hf
    refine g_iconst (v := 0) G dJ6_isLatin1_17 rfl ?_
    exact p_zret X hM hf dJ6_isLatin1_18
  refine g_if_eq (tgt := 17) G dJ6_isLatin1_3 rfl (fun c1 => ?_) (fun c1 => ?_)
  · have hf := it_pos c1 hf
    exact J17 _ _ _ hf hM ls (lv_sub hl [] rfl)
  · have hf := it_neg c1 hf
    refine g_aload_n G dJ6_isLatin1_6 rfl (lv_at hl 0 rfl) ?_
    obtain ⟨v2, g2, hf⟩ := vI_open hf
    refine p_get (k := 1) X hM pc_22 (by decide) q638 rfl g2 dJ6_isLatin1_7 ?_
    refine g_if_ne (tgt := 17) G dJ6_isLatin1_10 rfl (fun c2 => ?_) (fun c2 => ?_)
    · have hf := it_neg c2 hf
      exact J17 _ _ _ hf hM ls (lv_sub hl [] rfl)
    · have hf := it_pos c2 hf
      refine g_iconst (v := 1) G dJ6_isLatin1_13 rfl ?_
      refine g_goto (tgt := 18) G dJ6_isLatin1_14 rfl ?_
      exact p_zret X hM hf dJ6_isLatin1_18
theorem pcy_J6_coder : pcY yJ6_coder cJ6_coder 1 (Option.some Jvm.ClassFile.FieldType.byte) 0 := ⟨q751, q158, ⟨by decide +kernel, by decide +kernel, by decide +kernel⟩, Nat.le_of_ble_eq_true rfl⟩
noncomputable def fJ6_coder (D : PD) (a0 : Nat) (h : PH) : Option (Int32 × PH) :=
  vI (some (dS D 4)) fun v1 =>
  if v1 = 0 then
    ck (decide (vp_nar .byte 1 = 1)) <|
    some (1, h)
  else
    vI (pF h a0 22 1) fun v2 =>
    ck (decide (vp_nar .byte v2 = v2)) <|
    some (v2, h)
set_option maxHeartbeats 1000000 in
theorem kJ6_coder {l : Launch} {D : PD} {A : Nat → Prop} {cap : Nat × Nat} {a0 : Nat} {h h' : PH} {r : Int32} (hf : fJ6_coder D a0 h = some (r, h')) : CMet l D A cap yJ6_coder cJ6_coder 1 (Option.some Jvm.ClassFile.FieldType.byte) 1 [.ref a0] h h' (some (.int r)) := by
  unfold fJ6_coder at hf
  refine p_head (own := RJ6) (ini := false) (pn_J6 rfl) rfl (fun q => by cases q) (Nat.le_of_ble_eq_true rfl) (fun m Z cx sx H0 ls X hM hl => ?_)
  have G := X.g
  have hl : lv_has ls 1 [(0, .ref a0)] := hl
  obtain ⟨v1, g1, hf⟩ := vI_open hf
  refine p_gets X hM (i := 4) rfl q586 dJ6_coder_0 ?_
  rw [Option.some.inj g1]
  refine g_if_eq (tgt := 13) G dJ6_coder_3 rfl (fun c1 => ?_) (fun c1 => ?_)
  · have hf := it_pos c1 hf
    refine g_iconst (v := 1) G dJ6_coder_13 rfl ?_
    obtain ⟨b1, hf⟩ := ck_open hf
    exact p_tret X hM hf (nar_b b1) dJ6_coder_14
  · have hf := it_neg c1 hf
    refine g_aload_n G dJ6_coder_6 rfl (lv_at hl 0 rfl) ?_
    obtain ⟨v2, g2, hf⟩ := vI_open hf
    refine p_get (k := 1) X hM pc_22 (by decide) q638 rfl g2 dJ6_coder_7 ?_
    refine g_goto (tgt := 14) G dJ6_coder_10 rfl ?_
    obtain ⟨b2, hf⟩ := ck_open hf
    exact p_tret X hM hf (nar_b b2) dJ6_coder_14
theorem pcy_J9_equals : pcY yJ9_equals cJ9_equals 3 (Option.some Jvm.ClassFile.FieldType.boolean) 2 := ⟨q715, q161, ⟨by decide +kernel, by decide +kernel, by decide +kernel⟩, Nat.le_of_ble_eq_true rfl⟩
noncomputable def fJ9_equals_L9 (a1 : Nat) (a2 : Nat) (s9 : Int32 → PH → Option (Bool × PH)) (x1 : Int32) (h1 : PH) : Option (Bool × PH) :=
  ob (pArr h1 a1 2) fun w3 =>
  if (nI w3.1) ≤ x1 then
    some (true, h1)
  else
    ob (pLd h1 a1 2 x1) fun v1 =>
    ob (pLd h1 a2 2 x1) fun v2 =>
    if v1 = v2 then
      s9 (x1 + 1) h1
    else
      some (false, h1)
noncomputable def fJ9_equals (a1 : Nat) (a2 : Nat) (h : PH) : Option (Bool × PH) :=
  ob (pArr h a1 2) fun w1 =>
  ob (pArr h a2 2) fun w2 =>
  if (nI w1.1) = (nI w2.1) then
    fx (fJ9_equals_L9 a1 a2) (fun _ _ => none) FU 0 h
  else
    some (false, h)
set_option maxHeartbeats 1000000 in
theorem kJ9_equals {l : Launch} {D : PD} {A : Nat → Prop} {cap : Nat × Nat} {a1 : Nat} {a2 : Nat} {h h' : PH} {r : Bool} (hf : fJ9_equals a1 a2 h = some (r, h')) : CMet l D A cap yJ9_equals cJ9_equals 3 (Option.some Jvm.ClassFile.FieldType.boolean) 1 [.ref a1, .ref a2] h h' (some (.int (bI r))) := by
  unfold fJ9_equals at hf
  refine p_head (own := RJ9) (ini := false) (pn_J9 rfl) rfl (fun q => by cases q) (Nat.le_of_ble_eq_true rfl) (fun m Z cx sx H0 ls X hM hl => ?_)
  have G := X.g
  have hl : lv_has ls 3 [(0, .ref a1), (1, .ref a2)] := hl
  refine g_aload_n G dJ9_equals_0 rfl (lv_at hl 0 rfl) ?_
  obtain ⟨w1, g1, hf⟩ := ob_open hf
  refine p_alen X hM (kd := 2) (by decide) g1 rfl dJ9_equals_1 ?_
  refine g_aload_n G dJ9_equals_2 rfl (lv_at hl 1 rfl) ?_
  obtain ⟨w2, g2, hf⟩ := ob_open hf
  refine p_alen X hM (kd := 2) (by decide) g2 rfl dJ9_equals_3 ?_
  refine g_icmp_ne (tgt := 34) G dJ9_equals_4 rfl (fun c1 => ?_) (fun c1 => ?_)
  · have hf := it_neg c1 hf
    refine g_iconst (v := 0) G dJ9_equals_34 rfl ?_
    exact p_zret X hM hf dJ9_equals_35
  · have hf := it_pos c1 hf
    refine g_iconst (v := 0) G dJ9_equals_7 rfl ?_
    refine g_istore_n (i := 2) (lv' := [(2, .int 0), (0, .ref a1), (1, .ref a2)]) G dJ9_equals_8 rfl hl (Nat.le_of_ble_eq_true rfl) rfl (fun ls hl => ?_)
    have L9 : ∀ (n : Nat) (x1 : Int32) (h1 : PH) (H : Heap) (locs : List Loc), fx (fJ9_equals_L9 a1 a2) (fun _ _ => none) n x1 h1 = some (r, h') → PI D A cap H0 h1 H locs → ∀ ls : Array Slot, lv_has ls 3 [(0, .ref a1), (1, .ref a2), (2, .int x1)] → Z H locs (cx H) (sx H) (F0 m 9 ls []) := by
      intro n
      induction n with
      | zero => intro x1 h1 H locs hf; exact absurd hf (by intro q; cases q)
      | succ n ih9 =>
        intro x1 h1 H locs hf hM ls hl
        rw [fx_s] at hf
        generalize fx (fJ9_equals_L9 a1 a2) (fun _ _ => none) n = s9 at hf ih9
        unfold fJ9_equals_L9 at hf
        refine g_iload_n G dJ9_equals_9 rfl (lv_at hl 2 rfl) ?_
        refine g_aload_n G dJ9_equals_10 rfl (lv_at hl 0 rfl) ?_
        obtain ⟨w3, g3, hf⟩ := ob_open hf
        refine p_alen X hM (kd := 2) (by decide) g3 rfl dJ9_equals_11 ?_
        refine g_icmp_ge (tgt := 32) G dJ9_equals_12 rfl (fun c2 => ?_) (fun c2 => ?_)
        · have hf := it_pos c2 hf
          refine g_iconst (v := 1) G dJ9_equals_32 rfl ?_
          exact p_zret X hM hf dJ9_equals_33
        · have hf := it_neg c2 hf
          refine g_aload_n G dJ9_equals_15 rfl (lv_at hl 0 rfl) ?_
          refine g_iload_n G dJ9_equals_16 rfl (lv_at hl 2 rfl) ?_
          obtain ⟨v1, g4, hf⟩ := ob_open hf
          refine p_bald X hM g4 dJ9_equals_17 ?_
          refine g_aload_n G dJ9_equals_18 rfl (lv_at hl 1 rfl) ?_
          refine g_iload_n G dJ9_equals_19 rfl (lv_at hl 2 rfl) ?_
          obtain ⟨v2, g5, hf⟩ := ob_open hf
          refine p_bald X hM g5 dJ9_equals_20 ?_
          refine g_icmp_eq (tgt := 26) G dJ9_equals_21 rfl (fun c3 => ?_) (fun c3 => ?_)
          · have hf := it_pos c3 hf
            refine g_iinc (v := x1 + 1) (lv' := [(2, .int (x1 + 1)), (0, .ref a1), (1, .ref a2)]) G dJ9_equals_26 hl (k := 2) rfl rfl (Nat.le_of_ble_eq_true rfl) rfl (fun ls hl => ?_)
            refine g_goto (tgt := 9) G dJ9_equals_29 rfl ?_
            exact ih9 _ _ _ _ hf hM ls (lv_sub hl [1, 2, 0] rfl)
          · have hf := it_neg c3 hf
            refine g_iconst (v := 0) G dJ9_equals_24 rfl ?_
            exact p_zret X hM hf dJ9_equals_25
    exact L9 FU _ _ _ _ hf hM ls (lv_sub hl [1, 2, 0] rfl)
theorem pcy_J6_equals : pcY yJ6_equals cJ6_equals 3 (Option.some Jvm.ClassFile.FieldType.boolean) 1 := ⟨q712, q158, ⟨by decide +kernel, by decide +kernel, by decide +kernel⟩, Nat.le_of_ble_eq_true rfl⟩
noncomputable def fJ6_equals (D : PD) (a0 : Nat) (a1 : Option Nat) (h : PH) : Option (Bool × PH) :=
  qS a1 fun n1 =>
  if a0 = n1 then
    some (true, h)
  else
    ckc (pCls h n1) 22 <|
    jn (fun (h1 : PH) =>
      some (false, h1)) fun j54 =>
    if (1 : Int32) = 0 then
      j54 h
    else
      ckc (pCls h n1) 22 <|
      vI (some (dS D 4)) fun v1 =>
      jn (fun (h2 : PH) =>
        vA (pF h2 a0 22 0) fun p1 =>
        vA (pF h2 n1 22 0) fun p2 =>
        bnd (fJ9_equals p1 p2 h2) fun r1 h3 =>
        if (bI r1) = 0 then
          j54 h3
        else
          some (true, h3)) fun j36 =>
      if v1 = 0 then
        j36 h
      else
        vI (pF h a0 22 1) fun v2 =>
        vI (pF h n1 22 1) fun v3 =>
        if v2 = v3 then
          j36 h
        else
          j54 h
set_option maxHeartbeats 1000000 in
theorem kJ6_equals {l : Launch} {D : PD} {A : Nat → Prop} {cap : Nat × Nat} {a0 : Nat} {a1 : Option Nat} {h h' : PH} {r : Bool} (hf : fJ6_equals D a0 a1 h = some (r, h')) : CMet l D A cap yJ6_equals cJ6_equals 3 (Option.some Jvm.ClassFile.FieldType.boolean) 2 [.ref a0, va_rf a1] h h' (some (.int (bI r))) := by
  unfold fJ6_equals at hf
  refine p_head (own := RJ6) (ini := false) (pn_J6 rfl) rfl (fun q => by cases q) (by simp [lg_sl, cat_q, cat_i, cat_l, cat_r]) (fun m Z cx sx H0 ls X hM hl => ?_)
  have G := X.g
  have hl : lv_has ls 3 [(0, .ref a0), (1, va_rf a1)] := by simpa [lv_args, cat_q, cat_i, cat_l, cat_r] using hl
  refine g_aload_n G dJ6_equals_0 rfl (lv_at hl 0 rfl) ?_
  refine g_aload_nQ G dJ6_equals_1 rfl (lv_at hl 1 rfl) ?_
  obtain ⟨n1, e1, hfq⟩ := qS_open hf
  clear hf; subst e1; have hf := hfq; clear hfq
  refine g_acmp_ne (tgt := 7) G dJ6_equals_2 rfl (fun c1 => ?_) (fun c1 => ?_)
  · have hf := it_neg c1 hf
    refine g_aload_n G dJ6_equals_7 rfl (lv_at hl 1 rfl) ?_
    obtain ⟨b1, hf⟩ := ckc_open hf
    refine p_instS X hM (ci := 22) rfl q576 b1 dJ6_equals_8 ?_
    obtain ⟨j54, ej54, hf⟩ := jn_open hf
    have J54 : ∀ (h1 : PH) (H : Heap) (locs : List Loc), j54 h1 = some (r, h') → PI D A cap H0 h1 H locs → ∀ ls : Array Slot, lv_has ls 3 [] → Z H locs (cx H) (sx H) (F0 m 54 ls []) := by
      intro h1 H locs hf hM ls hl
      rw [ej54] at hf
      refine g_iconst (v := 0) G dJ6_equals_54 rfl ?_
      exact p_zret X hM hf dJ6_equals_55
    refine g_if_eq (tgt := 54) G dJ6_equals_11 rfl (fun c2 => ?_) (fun c2 => ?_)
    · have hf := it_pos c2 hf
      exact J54 _ _ _ hf hM ls (lv_sub hl [] rfl)
    · have hf := it_neg c2 hf
      refine g_aload_n G dJ6_equals_14 rfl (lv_at hl 1 rfl) ?_
      obtain ⟨b3, hf⟩ := ckc_open hf
      refine p_castS X hM (ci := 22) rfl q576 b3 dJ6_equals_15 ?_
      refine g_astore_n (i := 2) (lv' := [(2, .ref n1), (0, .ref a0), (1, .ref n1)]) G dJ6_equals_18 rfl hl (Nat.le_of_ble_eq_true rfl) rfl (fun ls hl => ?_)
      obtain ⟨v1, g1, hf⟩ := vI_open hf
      refine p_gets X hM (i := 4) rfl q586 dJ6_equals_19 ?_
      rw [Option.some.inj g1]
      obtain ⟨j36, ej36, hf⟩ := jn_open hf
      have J36 : ∀ (h2 : PH) (H : Heap) (locs : List Loc), j36 h2 = some (r, h') → PI D A cap H0 h2 H locs → ∀ ls : Array Slot, lv_has ls 3 [(0, .ref a0), (2, .ref n1)] → Z H locs (cx H) (sx H) (F0 m 36 ls []) := by
        intro h2 H locs hf hM ls hl
        rw [ej36] at hf
        refine g_aload_n G dJ6_equals_36 rfl (lv_at hl 0 rfl) ?_
        obtain ⟨p1, g2, hf⟩ := vA_open hf
        refine p_get (k := 0) X hM pc_22 (by decide) q637 rfl g2 dJ6_equals_37 ?_
        refine g_aload_n G dJ6_equals_40 rfl (lv_at hl 1 rfl) ?_
        obtain ⟨p2, g3, hf⟩ := vA_open hf
        refine p_get (k := 0) X hM pc_22 (by decide) q637 rfl g3 dJ6_equals_41 ?_
        obtain ⟨r1, h3, g4, hf⟩ := bnd_open hf
        refine p_callS_r (As := [.ref p1, .ref p2]) (rest := []) X hM hl pcy_J9_equals q713 q714 (kJ9_equals g4) rfl (Nat.le_of_ble_eq_true rfl) (Nat.le_of_ble_eq_true rfl) rfl dJ6_equals_44 (fun H locs hM => ?_)
        refine g_if_eq (tgt := 54) G dJ6_equals_47 rfl (fun c3 => ?_) (fun c3 => ?_)
        · have hf := it_pos c3 hf
          exact J54 _ _ _ hf hM ls (lv_sub hl [] rfl)
        · have hf := it_neg c3 hf
          refine g_iconst (v := 1) G dJ6_equals_50 rfl ?_
          refine g_goto (tgt := 55) G dJ6_equals_51 rfl ?_
          exact p_zret X hM hf dJ6_equals_55
      refine g_if_eq (tgt := 36) G dJ6_equals_22 rfl (fun c4 => ?_) (fun c4 => ?_)
      · have hf := it_pos c4 hf
        exact J36 _ _ _ hf hM ls (lv_sub hl [1, 0] rfl)
      · have hf := it_neg c4 hf
        refine g_aload_n G dJ6_equals_25 rfl (lv_at hl 1 rfl) ?_
        obtain ⟨v2, g5, hf⟩ := vI_open hf
        refine p_get (k := 1) X hM pc_22 (by decide) q638 rfl g5 dJ6_equals_26 ?_
        refine g_aload_n G dJ6_equals_29 rfl (lv_at hl 0 rfl) ?_
        obtain ⟨v3, g6, hf⟩ := vI_open hf
        refine p_get (k := 1) X hM pc_22 (by decide) q638 rfl g6 dJ6_equals_30 ?_
        refine g_icmp_ne (tgt := 54) G dJ6_equals_33 rfl (fun c5 => ?_) (fun c5 => ?_)
        · have hf := it_neg c5 hf
          exact J54 _ _ _ hf hM ls (lv_sub hl [] rfl)
        · have hf := it_pos c5 hf
          exact J36 _ _ _ hf hM ls (lv_sub hl [1, 0] rfl)
  · have hf := it_pos c1 hf
    refine g_iconst (v := 1) G dJ6_equals_5 rfl ?_
    exact p_zret X hM hf dJ6_equals_6
theorem pcy_J10_signedHashCode : pcY yJ10_signedHashCode cJ10_signedHashCode 6 (Option.some Jvm.ClassFile.FieldType.int) 4 := ⟨q672, q162, ⟨by decide +kernel, by decide +kernel, by decide +kernel⟩, Nat.le_of_ble_eq_true rfl⟩
noncomputable def fJ10_signedHashCode_L8 (a2 : Nat) (a3 : Int32) (a4 : Int32) (s8 : Int32 → Int32 → PH → Option (Int32 × PH)) (x1 : Int32) (x2 : Int32) (h1 : PH) : Option (Int32 × PH) :=
  if (a3 + a4) ≤ x2 then
    some (x1, h1)
  else
    ob (pLd h1 a2 2 x2) fun v1 =>
    s8 (((31 : Int32) * x1) + (v1 &&& 255)) (x2 + 1) h1
noncomputable def fJ10_signedHashCode (a1 : Int32) (a2 : Nat) (a3 : Int32) (a4 : Int32) (h : PH) : Option (Int32 × PH) :=
  fx (fJ10_signedHashCode_L8 a2 a3 a4) (fun _ _ _ => none) FU a1 a3 h
set_option maxHeartbeats 1000000 in
theorem kJ10_signedHashCode {l : Launch} {D : PD} {A : Nat → Prop} {cap : Nat × Nat} {a1 : Int32} {a2 : Nat} {a3 : Int32} {a4 : Int32} {h h' : PH} {r : Int32} (hf : fJ10_signedHashCode a1 a2 a3 a4 h = some (r, h')) : CMet l D A cap yJ10_signedHashCode cJ10_signedHashCode 6 (Option.some Jvm.ClassFile.FieldType.int) 1 [.int a1, .ref a2, .int a3, .int a4] h h' (some (.int r)) := by
  unfold fJ10_signedHashCode at hf
  refine p_head (own := RJ10) (ini := false) (pn_J10 rfl) rfl (fun q => by cases q) (Nat.le_of_ble_eq_true rfl) (fun m Z cx sx H0 ls X hM hl => ?_)
  have G := X.g
  have hl : lv_has ls 6 [(0, .int a1), (1, .ref a2), (2, .int a3), (3, .int a4)] := hl
  refine g_iload_n G dJ10_signedHashCode_0 rfl (lv_at hl 2 rfl) ?_
  refine g_iload_n G dJ10_signedHashCode_1 rfl (lv_at hl 3 rfl) ?_
  refine g_iadd G dJ10_signedHashCode_2 ?_
  refine g_istore (lv' := [(4, .int (a3 + a4)), (0, .int a1), (1, .ref a2), (2, .int a3), (3, .int a4)]) G dJ10_signedHashCode_3 hl (Nat.le_of_ble_eq_true rfl) rfl (fun ls hl => ?_)
  refine g_iload_n G dJ10_signedHashCode_5 rfl (lv_at hl 3 rfl) ?_
  refine g_istore (lv' := [(5, .int a3), (4, .int (a3 + a4)), (0, .int a1), (1, .ref a2), (2, .int a3), (3, .int a4)]) G dJ10_signedHashCode_6 hl (Nat.le_of_ble_eq_true rfl) rfl (fun ls hl => ?_)
  have L8 : ∀ (n : Nat) (x1 : Int32) (x2 : Int32) (h1 : PH) (H : Heap) (locs : List Loc), fx (fJ10_signedHashCode_L8 a2 a3 a4) (fun _ _ _ => none) n x1 x2 h1 = some (r, h') → PI D A cap H0 h1 H locs → ∀ ls : Array Slot, lv_has ls 6 [(0, .int x1), (1, .ref a2), (4, .int (a3 + a4)), (5, .int x2)] → Z H locs (cx H) (sx H) (F0 m 8 ls []) := by
    intro n
    induction n with
    | zero => intro x1 x2 h1 H locs hf; exact absurd hf (by intro q; cases q)
    | succ n ih8 =>
      intro x1 x2 h1 H locs hf hM ls hl
      rw [fx_s] at hf
      generalize fx (fJ10_signedHashCode_L8 a2 a3 a4) (fun _ _ _ => none) n = s8 at hf ih8
      unfold fJ10_signedHashCode_L8 at hf
      refine g_iload G dJ10_signedHashCode_8 (lv_at hl 3 rfl) ?_
      refine g_iload G dJ10_signedHashCode_10 (lv_at hl 2 rfl) ?_
      refine g_icmp_ge (tgt := 35) G dJ10_signedHashCode_12 rfl (fun c1 => ?_) (fun c1 => ?_)
      · have hf := it_pos c1 hf
        refine g_iload_n G dJ10_signedHashCode_35 rfl (lv_at hl 0 rfl) ?_
        exact p_iret X hM hf dJ10_signedHashCode_36
      · have hf := it_neg c1 hf
        refine g_bipush (v := 31) G dJ10_signedHashCode_15 rfl ?_
        refine g_iload_n G dJ10_signedHashCode_17 rfl (lv_at hl 0 rfl) ?_
        refine g_imul G dJ10_signedHashCode_18 ?_
        refine g_aload_n G dJ10_signedHashCode_19 rfl (lv_at hl 1 rfl) ?_
        refine g_iload G dJ10_signedHashCode_20 (lv_at hl 3 rfl) ?_
        obtain ⟨v1, g1, hf⟩ := ob_open hf
        refine p_bald X hM g1 dJ10_signedHashCode_22 ?_
        refine g_sipush (v := 255) G dJ10_signedHashCode_23 rfl ?_
        refine g_iand G dJ10_signedHashCode_26 ?_
        refine g_iadd G dJ10_signedHashCode_27 ?_
        refine g_istore_n (i := 0) (lv' := [(0, .int (((31 : Int32) * x1) + (v1 &&& 255))), (1, .ref a2), (4, .int (a3 + a4)), (5, .int x2)]) G dJ10_signedHashCode_28 rfl hl (Nat.le_of_ble_eq_true rfl) rfl (fun ls hl => ?_)
        refine g_iinc (v := x2 + 1) (lv' := [(5, .int (x2 + 1)), (0, .int (((31 : Int32) * x1) + (v1 &&& 255))), (1, .ref a2), (4, .int (a3 + a4))]) G dJ10_signedHashCode_29 hl (k := 3) rfl rfl (Nat.le_of_ble_eq_true rfl) rfl (fun ls hl => ?_)
        refine g_goto (tgt := 8) G dJ10_signedHashCode_32 rfl ?_
        exact ih8 _ _ _ _ _ hf hM ls (lv_sub hl [1, 2, 3, 0] rfl)
  exact L8 FU _ _ _ _ _ hf hM ls (lv_sub hl [2, 3, 1, 0] rfl)
theorem pcy_J10_vectorizedHashCode : pcY yJ10_vectorizedHashCode cJ10_vectorizedHashCode 5 (Option.some Jvm.ClassFile.FieldType.int) 5 := ⟨q668, q162, ⟨by decide +kernel, by decide +kernel, by decide +kernel⟩, Nat.le_of_ble_eq_true rfl⟩
noncomputable def fJ10_vectorizedHashCode (D : PD) (cap : Nat × Nat) (a1 : Nat) (a2 : Int32) (a3 : Int32) (a4 : Int32) (a5 : Int32) (h : PH) : Option (Int32 × PH) :=
  if a5 = 4 then
    ob (pArr h a1 2) fun w1 =>
    bnd (fJ10_signedHashCode a4 a1 a2 a3 h) fun r1 h1 =>
    some (r1, h1)
  else
    if a5 = 5 then
      none
    else
      if a5 = 6 then
        none
      else
        if a5 = 7 then
          none
        else
          if a5 = 8 then
            none
          else
            if a5 = 9 then
              none
            else
              if a5 = 10 then
                none
              else
                none
set_option maxHeartbeats 1000000 in
theorem kJ10_vectorizedHashCode {l : Launch} {D : PD} {A : Nat → Prop} {cap : Nat × Nat} {a1 : Nat} {a2 : Int32} {a3 : Int32} {a4 : Int32} {a5 : Int32} {h h' : PH} {r : Int32} (hf : fJ10_vectorizedHashCode D cap a1 a2 a3 a4 a5 h = some (r, h')) : CMet l D A cap yJ10_vectorizedHashCode cJ10_vectorizedHashCode 5 (Option.some Jvm.ClassFile.FieldType.int) 2 [.ref a1, .int a2, .int a3, .int a4, .int a5] h h' (some (.int r)) := by
  unfold fJ10_vectorizedHashCode at hf
  refine p_head (own := RJ10) (ini := false) (pn_J10 rfl) rfl (fun q => by cases q) (Nat.le_of_ble_eq_true rfl) (fun m Z cx sx H0 ls X hM hl => ?_)
  have G := X.g
  have hl : lv_has ls 5 [(0, .ref a1), (1, .int a2), (2, .int a3), (3, .int a4), (4, .int a5)] := hl
  refine g_iload G dJ10_vectorizedHashCode_0 (lv_at hl 4 rfl) ?_
  by_cases c1 : a5 = 4
  · have hf := it_pos c1 hf
    refine g_tableIn (off := 42) (tgt := 44) G dJ10_vectorizedHashCode_2 (by rw [c1]; decide) (by rw [c1]; decide) (by rw [c1]; rfl) rfl ?_
    refine g_iload_n G dJ10_vectorizedHashCode_44 rfl (lv_at hl 3 rfl) ?_
    refine g_aload_n G dJ10_vectorizedHashCode_45 rfl (lv_at hl 0 rfl) ?_
    obtain ⟨w1, g1, hf⟩ := ob_open hf
    refine p_castB X hM q669 g1 dJ10_vectorizedHashCode_46 ?_
    refine g_iload_n G dJ10_vectorizedHashCode_49 rfl (lv_at hl 1 rfl) ?_
    refine g_iload_n G dJ10_vectorizedHashCode_50 rfl (lv_at hl 2 rfl) ?_
    obtain ⟨r1, h1, g2, hf⟩ := bnd_open hf
    refine p_callS_r (As := [.int a4, .ref a1, .int a2, .int a3]) (rest := []) X hM hl pcy_J10_signedHashCode q670 q671 (kJ10_signedHashCode g2) rfl (Nat.le_of_ble_eq_true rfl) (Nat.le_of_ble_eq_true rfl) rfl dJ10_vectorizedHashCode_51 (fun H locs hM => ?_)
    refine g_goto (tgt := 157) G dJ10_vectorizedHashCode_54 rfl ?_
    exact p_iret X hM hf dJ10_vectorizedHashCode_157
  have hf := it_neg c1 hf
  by_cases c2 : a5 = 5
  · have hf := it_pos c2 hf
    refine g_tableIn (off := 55) (tgt := 57) G dJ10_vectorizedHashCode_2 (by rw [c2]; decide) (by rw [c2]; decide) (by rw [c2]; rfl) rfl ?_
    refine g_aload_n G dJ10_vectorizedHashCode_57 rfl (lv_at hl 0 rfl) ?_
    exact absurd hf (by intro q; cases q)
  have hf := it_neg c2 hf
  by_cases c3 : a5 = 6
  · have hf := it_pos c3 hf
    refine g_tableIn (off := 127) (tgt := 129) G dJ10_vectorizedHashCode_2 (by rw [c3]; decide) (by rw [c3]; decide) (by rw [c3]; rfl) rfl ?_
    exact absurd hf (by intro q; cases q)
  have hf := it_neg c3 hf
  by_cases c4 : a5 = 7
  · have hf := it_pos c4 hf
    refine g_tableIn (off := 127) (tgt := 129) G dJ10_vectorizedHashCode_2 (by rw [c4]; decide) (by rw [c4]; decide) (by rw [c4]; rfl) rfl ?_
    exact absurd hf (by intro q; cases q)
  have hf := it_neg c4 hf
  by_cases c5 : a5 = 8
  · have hf := it_pos c5 hf
    refine g_tableIn (off := 88) (tgt := 90) G dJ10_vectorizedHashCode_2 (by rw [c5]; decide) (by rw [c5]; decide) (by rw [c5]; rfl) rfl ?_
    exact absurd hf (by intro q; cases q)
  have hf := it_neg c5 hf
  by_cases c6 : a5 = 9
  · have hf := it_pos c6 hf
    refine g_tableIn (off := 101) (tgt := 103) G dJ10_vectorizedHashCode_2 (by rw [c6]; decide) (by rw [c6]; decide) (by rw [c6]; rfl) rfl ?_
    exact absurd hf (by intro q; cases q)
  have hf := it_neg c6 hf
  by_cases c7 : a5 = 10
  · have hf := it_pos c7 hf
    refine g_tableIn (off := 114) (tgt := 116) G dJ10_vectorizedHashCode_2 (by rw [c7]; decide) (by rw [c7]; decide) (by rw [c7]; rfl) rfl ?_
    exact absurd hf (by intro q; cases q)
  have hf := it_neg c7 hf
  refine g_tableOut (tgt := 129) G dJ10_vectorizedHashCode_2 (by have ec1 := lv_neT c1 (a := 4) rfl; have ec2 := lv_neT c2 (a := 5) rfl; have ec3 := lv_neT c3 (a := 6) rfl; have ec4 := lv_neT c4 (a := 7) rfl; have ec5 := lv_neT c5 (a := 8) rfl; have ec6 := lv_neT c6 (a := 9) rfl; have ec7 := lv_neT c7 (a := 10) rfl; omega) rfl ?_
  exact absurd hf (by intro q; cases q)
theorem pcy_J9_hashCode : pcY yJ9_hashCode cJ9_hashCode 1 (Option.some Jvm.ClassFile.FieldType.int) 1 := ⟨q665, q161, ⟨by decide +kernel, by decide +kernel, by decide +kernel⟩, Nat.le_of_ble_eq_true rfl⟩
noncomputable def fJ9_hashCode (D : PD) (cap : Nat × Nat) (a1 : Nat) (h : PH) : Option (Int32 × PH) :=
  ob (pArr h a1 2) fun w1 =>
  if (nI w1.1) = 0 then
    some (0, h)
  else
    if (nI w1.1) = 1 then
      ob (pLd h a1 2 0) fun v1 =>
      some ((v1 &&& 255), h)
    else
      ob (pArr h a1 2) fun w2 =>
      bnd (fJ10_vectorizedHashCode D cap a1 0 (nI w2.1) 0 4 h) fun r1 h1 =>
      some (r1, h1)
set_option maxHeartbeats 1000000 in
theorem kJ9_hashCode {l : Launch} {D : PD} {A : Nat → Prop} {cap : Nat × Nat} {a1 : Nat} {h h' : PH} {r : Int32} (hf : fJ9_hashCode D cap a1 h = some (r, h')) : CMet l D A cap yJ9_hashCode cJ9_hashCode 1 (Option.some Jvm.ClassFile.FieldType.int) 3 [.ref a1] h h' (some (.int r)) := by
  unfold fJ9_hashCode at hf
  refine p_head (own := RJ9) (ini := false) (pn_J9 rfl) rfl (fun q => by cases q) (Nat.le_of_ble_eq_true rfl) (fun m Z cx sx H0 ls X hM hl => ?_)
  have G := X.g
  have hl : lv_has ls 1 [(0, .ref a1)] := hl
  refine g_aload_n G dJ9_hashCode_0 rfl (lv_at hl 0 rfl) ?_
  obtain ⟨w1, g1, hf⟩ := ob_open hf
  refine p_alen X hM (kd := 2) (by decide) g1 rfl dJ9_hashCode_1 ?_
  by_cases c1 : (nI w1.1) = 0
  · have hf := it_pos c1 hf
    refine g_lookup (off := 26) (tgt := 28) G dJ9_hashCode_2 (by decide) (by rw [c1]; rfl) rfl ?_
    refine g_iconst (v := 0) G dJ9_hashCode_28 rfl ?_
    refine g_goto (tgt := 51) G dJ9_hashCode_29 rfl ?_
    exact p_iret X hM hf dJ9_hashCode_51
  have hf := it_neg c1 hf
  by_cases c2 : (nI w1.1) = 1
  · have hf := it_pos c2 hf
    refine g_lookup (off := 30) (tgt := 32) G dJ9_hashCode_2 (by decide) (by rw [c2]; rfl) rfl ?_
    refine g_aload_n G dJ9_hashCode_32 rfl (lv_at hl 0 rfl) ?_
    refine g_iconst (v := 0) G dJ9_hashCode_33 rfl ?_
    obtain ⟨v1, g2, hf⟩ := ob_open hf
    refine p_bald X hM g2 dJ9_hashCode_34 ?_
    refine g_sipush (v := 255) G dJ9_hashCode_35 rfl ?_
    refine g_iand G dJ9_hashCode_38 ?_
    refine g_goto (tgt := 51) G dJ9_hashCode_39 rfl ?_
    exact p_iret X hM hf dJ9_hashCode_51
  have hf := it_neg c2 hf
  refine g_lookup (off := 40) (tgt := 42) G dJ9_hashCode_2 (by decide) ((lv_osw (k := 0) c1 (by decide)).trans ((lv_osw (k := 1) c2 (by decide)).trans rfl)) rfl ?_
  refine g_aload_n G dJ9_hashCode_42 rfl (lv_at hl 0 rfl) ?_
  refine g_iconst (v := 0) G dJ9_hashCode_43 rfl ?_
  refine g_aload_n G dJ9_hashCode_44 rfl (lv_at hl 0 rfl) ?_
  obtain ⟨w2, g3, hf⟩ := ob_open hf
  refine p_alen X hM (kd := 2) (by decide) g3 rfl dJ9_hashCode_45 ?_
  refine g_iconst (v := 0) G dJ9_hashCode_46 rfl ?_
  refine g_iconst (v := 4) G dJ9_hashCode_47 rfl ?_
  obtain ⟨r1, h1, g4, hf⟩ := bnd_open hf
  refine p_callS_r (As := [.ref a1, .int 0, .int (nI w2.1), .int 0, .int 4]) (rest := []) X hM hl pcy_J10_vectorizedHashCode q666 q667 (kJ10_vectorizedHashCode g4) rfl (Nat.le_of_ble_eq_true rfl) (Nat.le_of_ble_eq_true rfl) rfl dJ9_hashCode_48 (fun H locs hM => ?_)
  exact p_iret X hM hf dJ9_hashCode_51
theorem pcy_J6_hashCode : pcY yJ6_hashCode cJ6_hashCode 2 (Option.some Jvm.ClassFile.FieldType.int) 0 := ⟨q658, q158, ⟨by decide +kernel, by decide +kernel, by decide +kernel⟩, Nat.le_of_ble_eq_true rfl⟩
noncomputable def fJ6_hashCode (D : PD) (cap : Nat × Nat) (a0 : Nat) (h : PH) : Option (Int32 × PH) :=
  vI (pF h a0 22 2) fun v1 =>
  if v1 = 0 then
    vZ (pF h a0 22 3) fun t1 =>
    if (bI t1) = 0 then
      ckc (pCls h a0) 22 <|
      bnd (fJ6_isLatin1 D a0 h) fun r1 h1 =>
      if (bI r1) = 0 then
        none
      else
        vA (pF h1 a0 22 0) fun p1 =>
        bnd (fJ9_hashCode D cap p1 h1) fun r2 h2 =>
        if r2 = 0 then
          bnv (pPut h2 a0 22 3 (.int (bI true))) fun h4 =>
          some (r2, h4)
        else
          bnv (pPut h2 a0 22 2 (.int r2)) fun h3 =>
          some (r2, h3)
    else
      some (v1, h)
  else
    some (v1, h)
set_option maxHeartbeats 1000000 in
theorem kJ6_hashCode {l : Launch} {D : PD} {A : Nat → Prop} {cap : Nat × Nat} {a0 : Nat} {h h' : PH} {r : Int32} (hf : fJ6_hashCode D cap a0 h = some (r, h')) : CMet l D A cap yJ6_hashCode cJ6_hashCode 2 (Option.some Jvm.ClassFile.FieldType.int) 4 [.ref a0] h h' (some (.int r)) := by
  unfold fJ6_hashCode at hf
  refine p_head (own := RJ6) (ini := false) (pn_J6 rfl) rfl (fun q => by cases q) (Nat.le_of_ble_eq_true rfl) (fun m Z cx sx H0 ls X hM hl => ?_)
  have G := X.g
  have hl : lv_has ls 2 [(0, .ref a0)] := hl
  refine g_aload_n G dJ6_hashCode_0 rfl (lv_at hl 0 rfl) ?_
  obtain ⟨v1, g1, hf⟩ := vI_open hf
  refine p_get (k := 2) X hM pc_22 (by decide) q639 rfl g1 dJ6_hashCode_1 ?_
  refine g_istore_n (i := 1) (lv' := [(1, .int v1), (0, .ref a0)]) G dJ6_hashCode_4 rfl hl (Nat.le_of_ble_eq_true rfl) rfl (fun ls hl => ?_)
  refine g_iload_n G dJ6_hashCode_5 rfl (lv_at hl 0 rfl) ?_
  refine g_if_ne (tgt := 58) G dJ6_hashCode_6 rfl (fun c1 => ?_) (fun c1 => ?_)
  · have hf := it_neg c1 hf
    refine g_iload_n G dJ6_hashCode_58 rfl (lv_at hl 0 rfl) ?_
    exact p_iret X hM hf dJ6_hashCode_59
  · have hf := it_pos c1 hf
    refine g_aload_n G dJ6_hashCode_9 rfl (lv_at hl 1 rfl) ?_
    obtain ⟨t1, g2, hf⟩ := vZ_open hf
    refine p_get (k := 3) X hM pc_22 (by decide) q640 rfl g2 dJ6_hashCode_10 ?_
    refine g_if_ne (tgt := 58) G dJ6_hashCode_13 rfl (fun c2 => ?_) (fun c2 => ?_)
    · have hf := it_neg c2 hf
      refine g_iload_n G dJ6_hashCode_58 rfl (lv_at hl 0 rfl) ?_
      exact p_iret X hM hf dJ6_hashCode_59
    · have hf := it_pos c2 hf
      refine g_aload_n G dJ6_hashCode_16 rfl (lv_at hl 1 rfl) ?_
      obtain ⟨b1, hf⟩ := ckc_open hf
      obtain ⟨r1, h1, g3, hf⟩ := bnd_open hf
      refine p_callV_r (ci := 22) (As := []) (rest := []) X hM hl rfl b1 pcy_J6_isLatin1 q659 q660 q661 (kJ6_isLatin1 g3) rfl (Nat.le_of_ble_eq_true rfl) (Nat.le_of_ble_eq_true rfl) rfl dJ6_hashCode_17 (fun H locs hM => ?_)
      refine g_if_eq (tgt := 33) G dJ6_hashCode_20 rfl (fun c3 => ?_) (fun c3 => ?_)
      · have hf := it_pos c3 hf
        exact absurd hf (by intro q; cases q)
      · have hf := it_neg c3 hf
        refine g_aload_n G dJ6_hashCode_23 rfl (lv_at hl 1 rfl) ?_
        obtain ⟨p1, g4, hf⟩ := vA_open hf
        refine p_get (k := 0) X hM pc_22 (by decide) q637 rfl g4 dJ6_hashCode_24 ?_
        obtain ⟨r2, h2, g5, hf⟩ := bnd_open hf
        refine p_callS_r (As := [.ref p1]) (rest := []) X hM hl pcy_J9_hashCode q663 q664 (kJ9_hashCode g5) rfl (Nat.le_of_ble_eq_true rfl) (Nat.le_of_ble_eq_true rfl) rfl dJ6_hashCode_27 (fun H locs hM => ?_)
        refine g_goto (tgt := 40) G dJ6_hashCode_30 rfl ?_
        refine g_istore_n (i := 1) (lv' := [(1, .int r2), (0, .ref a0)]) G dJ6_hashCode_40 rfl hl (Nat.le_of_ble_eq_true rfl) rfl (fun ls hl => ?_)
        refine g_iload_n G dJ6_hashCode_41 rfl (lv_at hl 0 rfl) ?_
        refine g_if_ne (tgt := 53) G dJ6_hashCode_42 rfl (fun c4 => ?_) (fun c4 => ?_)
        · have hf := it_neg c4 hf
          refine g_aload_n G dJ6_hashCode_53 rfl (lv_at hl 1 rfl) ?_
          refine g_iload_n G dJ6_hashCode_54 rfl (lv_at hl 0 rfl) ?_
          obtain ⟨h3, g6, hf⟩ := bnv_open hf
          refine p_put (k := 2) X hM pc_22 (by decide) q639 rfl rfl rfl rfl g6 dJ6_hashCode_55 (fun H locs hM => ?_)
          refine g_iload_n G dJ6_hashCode_58 rfl (lv_at hl 0 rfl) ?_
          exact p_iret X hM hf dJ6_hashCode_59
        · have hf := it_pos c4 hf
          refine g_aload_n G dJ6_hashCode_45 rfl (lv_at hl 1 rfl) ?_
          refine g_iconst (v := 1) G dJ6_hashCode_46 rfl ?_
          obtain ⟨h4, g7, hf⟩ := bnv_open hf
          refine p_put (k := 3) X hM pc_22 (by decide) q640 rfl rfl (bI_nar true) (bI_fit true) g7 dJ6_hashCode_47 (fun H locs hM => ?_)
          refine g_goto (tgt := 58) G dJ6_hashCode_50 rfl ?_
          refine g_iload_n G dJ6_hashCode_58 rfl (lv_at hl 0 rfl) ?_
          exact p_iret X hM hf dJ6_hashCode_59
theorem pcy_J9_charAt : pcY yJ9_charAt cJ9_charAt 2 (Option.some Jvm.ClassFile.FieldType.char) 2 := ⟨q1260, q161, ⟨by decide +kernel, by decide +kernel, by decide +kernel⟩, Nat.le_of_ble_eq_true rfl⟩
noncomputable def fJ9_charAt (D : PD) (a1 : Nat) (a2 : Int32) (h : PH) : Option (Int32 × PH) :=
  ob (pArr h a1 2) fun w1 =>
  bnv (fJ6_checkIndex D a2 (nI w1.1) h) fun h1 =>
  ob (pLd h1 a1 2 a2) fun v1 =>
  ck (decide (vp_nar .char ((Int32.toUInt32 (v1 &&& 255) % 65536).toInt32) = ((Int32.toUInt32 (v1 &&& 255) % 65536).toInt32))) <|
  some (((Int32.toUInt32 (v1 &&& 255) % 65536).toInt32), h1)
set_option maxHeartbeats 1000000 in
theorem kJ9_charAt {l : Launch} {D : PD} {A : Nat → Prop} {cap : Nat × Nat} {a1 : Nat} {a2 : Int32} {h h' : PH} {r : Int32} (hf : fJ9_charAt D a1 a2 h = some (r, h')) : CMet l D A cap yJ9_charAt cJ9_charAt 2 (Option.some Jvm.ClassFile.FieldType.char) 3 [.ref a1, .int a2] h h' (some (.int r)) := by
  unfold fJ9_charAt at hf
  refine p_head (own := RJ9) (ini := false) (pn_J9 rfl) rfl (fun q => by cases q) (Nat.le_of_ble_eq_true rfl) (fun m Z cx sx H0 ls X hM hl => ?_)
  have G := X.g
  have hl : lv_has ls 2 [(0, .ref a1), (1, .int a2)] := hl
  refine g_iload_n G dJ9_charAt_0 rfl (lv_at hl 1 rfl) ?_
  refine g_aload_n G dJ9_charAt_1 rfl (lv_at hl 0 rfl) ?_
  obtain ⟨w1, g1, hf⟩ := ob_open hf
  refine p_alen X hM (kd := 2) (by decide) g1 rfl dJ9_charAt_2 ?_
  obtain ⟨h1, g2, hf⟩ := bnv_open hf
  refine p_callS_v (As := [.int a2, .int (nI w1.1)]) (rest := []) X hM hl pcy_J6_checkIndex q1261 q1175 (kJ6_checkIndex g2) rfl (Nat.le_of_ble_eq_true rfl) (Nat.le_of_ble_eq_true rfl) rfl dJ9_charAt_3 (fun H locs hM => ?_)
  refine g_aload_n G dJ9_charAt_6 rfl (lv_at hl 0 rfl) ?_
  refine g_iload_n G dJ9_charAt_7 rfl (lv_at hl 1 rfl) ?_
  obtain ⟨v1, g3, hf⟩ := ob_open hf
  refine p_bald X hM g3 dJ9_charAt_8 ?_
  refine g_sipush (v := 255) G dJ9_charAt_9 rfl ?_
  refine g_iand G dJ9_charAt_12 ?_
  refine g_i2c (v := (Int32.toUInt32 (v1 &&& 255) % 65536).toInt32) G dJ9_charAt_13 rfl ?_
  obtain ⟨b1, hf⟩ := ck_open hf
  exact p_tret X hM hf (nar_b b1) dJ9_charAt_14
theorem pcy_J6_charAt : pcY yJ6_charAt cJ6_charAt 2 (Option.some Jvm.ClassFile.FieldType.char) 1 := ⟨q1257, q158, ⟨by decide +kernel, by decide +kernel, by decide +kernel⟩, Nat.le_of_ble_eq_true rfl⟩
noncomputable def fJ6_charAt (D : PD) (a0 : Nat) (a1 : Int32) (h : PH) : Option (Int32 × PH) :=
  ckc (pCls h a0) 22 <|
  bnd (fJ6_isLatin1 D a0 h) fun r1 h1 =>
  if (bI r1) = 0 then
    none
  else
    vA (pF h1 a0 22 0) fun p1 =>
    bnd (fJ9_charAt D p1 a1 h1) fun r2 h2 =>
    ck (decide (vp_nar .char r2 = r2)) <|
    some (r2, h2)
set_option maxHeartbeats 1000000 in
theorem kJ6_charAt {l : Launch} {D : PD} {A : Nat → Prop} {cap : Nat × Nat} {a0 : Nat} {a1 : Int32} {h h' : PH} {r : Int32} (hf : fJ6_charAt D a0 a1 h = some (r, h')) : CMet l D A cap yJ6_charAt cJ6_charAt 2 (Option.some Jvm.ClassFile.FieldType.char) 4 [.ref a0, .int a1] h h' (some (.int r)) := by
  unfold fJ6_charAt at hf
  refine p_head (own := RJ6) (ini := false) (pn_J6 rfl) rfl (fun q => by cases q) (Nat.le_of_ble_eq_true rfl) (fun m Z cx sx H0 ls X hM hl => ?_)
  have G := X.g
  have hl : lv_has ls 2 [(0, .ref a0), (1, .int a1)] := hl
  refine g_aload_n G dJ6_charAt_0 rfl (lv_at hl 0 rfl) ?_
  obtain ⟨b1, hf⟩ := ckc_open hf
  obtain ⟨r1, h1, g1, hf⟩ := bnd_open hf
  refine p_callV_r (ci := 22) (As := []) (rest := []) X hM hl rfl b1 pcy_J6_isLatin1 q659 q660 q661 (kJ6_isLatin1 g1) rfl (Nat.le_of_ble_eq_true rfl) (Nat.le_of_ble_eq_true rfl) rfl dJ6_charAt_1 (fun H locs hM => ?_)
  refine g_if_eq (tgt := 16) G dJ6_charAt_4 rfl (fun c1 => ?_) (fun c1 => ?_)
  · have hf := it_pos c1 hf
    exact absurd hf (by intro q; cases q)
  · have hf := it_neg c1 hf
    refine g_aload_n G dJ6_charAt_7 rfl (lv_at hl 0 rfl) ?_
    obtain ⟨p1, g2, hf⟩ := vA_open hf
    refine p_get (k := 0) X hM pc_22 (by decide) q637 rfl g2 dJ6_charAt_8 ?_
    refine g_iload_n G dJ6_charAt_11 rfl (lv_at hl 1 rfl) ?_
    obtain ⟨r2, h2, g3, hf⟩ := bnd_open hf
    refine p_callS_r (As := [.ref p1, .int a1]) (rest := []) X hM hl pcy_J9_charAt q1258 q1259 (kJ9_charAt g3) rfl (Nat.le_of_ble_eq_true rfl) (Nat.le_of_ble_eq_true rfl) rfl dJ6_charAt_12 (fun H locs hM => ?_)
    obtain ⟨b2, hf⟩ := ck_open hf
    exact p_tret X hM hf (nar_b b2) dJ6_charAt_15
theorem pcy_J6_length : pcY yJ6_length cJ6_length 1 (Option.some Jvm.ClassFile.FieldType.int) 0 := ⟨q747, q158, ⟨by decide +kernel, by decide +kernel, by decide +kernel⟩, Nat.le_of_ble_eq_true rfl⟩
noncomputable def fJ6_length (D : PD) (a0 : Nat) (h : PH) : Option (Int32 × PH) :=
  vA (pF h a0 22 0) fun p1 =>
  ob (pArr h p1 2) fun w1 =>
  ckc (pCls h a0) 22 <|
  bnd (fJ6_coder D a0 h) fun r1 h1 =>
  some (((nI w1.1) >>> (r1 &&& 31)), h1)
set_option maxHeartbeats 1000000 in
theorem kJ6_length {l : Launch} {D : PD} {A : Nat → Prop} {cap : Nat × Nat} {a0 : Nat} {h h' : PH} {r : Int32} (hf : fJ6_length D a0 h = some (r, h')) : CMet l D A cap yJ6_length cJ6_length 1 (Option.some Jvm.ClassFile.FieldType.int) 2 [.ref a0] h h' (some (.int r)) := by
  unfold fJ6_length at hf
  refine p_head (own := RJ6) (ini := false) (pn_J6 rfl) rfl (fun q => by cases q) (Nat.le_of_ble_eq_true rfl) (fun m Z cx sx H0 ls X hM hl => ?_)
  have G := X.g
  have hl : lv_has ls 1 [(0, .ref a0)] := hl
  refine g_aload_n G dJ6_length_0 rfl (lv_at hl 0 rfl) ?_
  obtain ⟨p1, g1, hf⟩ := vA_open hf
  refine p_get (k := 0) X hM pc_22 (by decide) q637 rfl g1 dJ6_length_1 ?_
  obtain ⟨w1, g2, hf⟩ := ob_open hf
  refine p_alen X hM (kd := 2) (by decide) g2 rfl dJ6_length_4 ?_
  refine g_aload_n G dJ6_length_5 rfl (lv_at hl 0 rfl) ?_
  obtain ⟨b1, hf⟩ := ckc_open hf
  obtain ⟨r1, h1, g3, hf⟩ := bnd_open hf
  refine p_callV_r (ci := 22) (As := []) (rest := [.int (nI w1.1)]) X hM hl rfl b1 pcy_J6_coder q748 q749 q750 (kJ6_coder g3) rfl (Nat.le_of_ble_eq_true rfl) (Nat.le_of_ble_eq_true rfl) rfl dJ6_length_6 (fun H locs hM => ?_)
  refine g_ishr G dJ6_length_9 ?_
  exact p_iret X hM hf dJ6_length_10
theorem pcy_J7_compress_2 : pcY yJ7_compress_2 cJ7_compress_2 7 (Option.some Jvm.ClassFile.FieldType.int) 5 := ⟨q593, q159, ⟨by decide +kernel, by decide +kernel, by decide +kernel⟩, Nat.le_of_ble_eq_true rfl⟩
noncomputable def fJ7_compress_2_L3 (a1 : Nat) (a3 : Nat) (a5 : Int32) (s3 : Int32 → Int32 → Int32 → PH → Option (Int32 × PH)) (x1 : Int32) (x2 : Int32) (x3 : Int32) (h1 : PH) : Option (Int32 × PH) :=
  if a5 ≤ x3 then
    some (a5, h1)
  else
    ob (pLd h1 a1 3 x1) fun v1 =>
    if v1 ≤ (255 : Int32) then
      bnv (pSt h1 a3 2 x2 (vp_nar .byte ((Int32.toInt8 v1).toInt32))) fun h2 =>
      s3 (x1 + 1) (x2 + 1) (x3 + 1) h2
    else
      some (x3, h1)
noncomputable def fJ7_compress_2 (a1 : Nat) (a2 : Int32) (a3 : Nat) (a4 : Int32) (a5 : Int32) (h : PH) : Option (Int32 × PH) :=
  fx (fJ7_compress_2_L3 a1 a3 a5) (fun _ _ _ _ => none) FU a2 a4 0 h
set_option maxHeartbeats 1000000 in
theorem kJ7_compress_2 {l : Launch} {D : PD} {A : Nat → Prop} {cap : Nat × Nat} {a1 : Nat} {a2 : Int32} {a3 : Nat} {a4 : Int32} {a5 : Int32} {h h' : PH} {r : Int32} (hf : fJ7_compress_2 a1 a2 a3 a4 a5 h = some (r, h')) : CMet l D A cap yJ7_compress_2 cJ7_compress_2 7 (Option.some Jvm.ClassFile.FieldType.int) 1 [.ref a1, .int a2, .ref a3, .int a4, .int a5] h h' (some (.int r)) := by
  unfold fJ7_compress_2 at hf
  refine p_head (own := RJ7) (ini := false) (pn_J7 rfl) rfl (fun q => by cases q) (Nat.le_of_ble_eq_true rfl) (fun m Z cx sx H0 ls X hM hl => ?_)
  have G := X.g
  have hl : lv_has ls 7 [(0, .ref a1), (1, .int a2), (2, .ref a3), (3, .int a4), (4, .int a5)] := hl
  refine g_iconst (v := 0) G dJ7_compress_2_0 rfl ?_
  refine g_istore (lv' := [(5, .int 0), (0, .ref a1), (1, .int a2), (2, .ref a3), (3, .int a4), (4, .int a5)]) G dJ7_compress_2_1 hl (Nat.le_of_ble_eq_true rfl) rfl (fun ls hl => ?_)
  have L3 : ∀ (n : Nat) (x1 : Int32) (x2 : Int32) (x3 : Int32) (h1 : PH) (H : Heap) (locs : List Loc), fx (fJ7_compress_2_L3 a1 a3 a5) (fun _ _ _ _ => none) n x1 x2 x3 h1 = some (r, h') → PI D A cap H0 h1 H locs → ∀ ls : Array Slot, lv_has ls 7 [(0, .ref a1), (1, .int x1), (2, .ref a3), (3, .int x2), (4, .int a5), (5, .int x3)] → Z H locs (cx H) (sx H) (F0 m 3 ls []) := by
    intro n
    induction n with
    | zero => intro x1 x2 x3 h1 H locs hf; exact absurd hf (by intro q; cases q)
    | succ n ih3 =>
      intro x1 x2 x3 h1 H locs hf hM ls hl
      rw [fx_s] at hf
      generalize fx (fJ7_compress_2_L3 a1 a3 a5) (fun _ _ _ _ => none) n = s3 at hf ih3
      unfold fJ7_compress_2_L3 at hf
      refine g_iload G dJ7_compress_2_3 (lv_at hl 5 rfl) ?_
      refine g_iload G dJ7_compress_2_5 (lv_at hl 4 rfl) ?_
      refine g_icmp_ge (tgt := 44) G dJ7_compress_2_7 rfl (fun c1 => ?_) (fun c1 => ?_)
      · have hf := it_pos c1 hf
        refine g_iload G dJ7_compress_2_44 (lv_at hl 4 rfl) ?_
        exact p_iret X hM hf dJ7_compress_2_46
      · have hf := it_neg c1 hf
        refine g_aload_n G dJ7_compress_2_10 rfl (lv_at hl 0 rfl) ?_
        refine g_iload_n G dJ7_compress_2_11 rfl (lv_at hl 1 rfl) ?_
        obtain ⟨v1, g1, hf⟩ := ob_open hf
        refine p_cald X hM g1 dJ7_compress_2_12 ?_
        refine g_istore (lv' := [(6, .int v1), (0, .ref a1), (1, .int x1), (2, .ref a3), (3, .int x2), (4, .int a5), (5, .int x3)]) G dJ7_compress_2_13 hl (Nat.le_of_ble_eq_true rfl) rfl (fun ls hl => ?_)
        refine g_iload G dJ7_compress_2_15 (lv_at hl 0 rfl) ?_
        refine g_sipush (v := 255) G dJ7_compress_2_17 rfl ?_
        refine g_icmp_le (tgt := 26) G dJ7_compress_2_20 rfl (fun c2 => ?_) (fun c2 => ?_)
        · have hf := it_pos c2 hf
          refine g_aload_n G dJ7_compress_2_26 rfl (lv_at hl 3 rfl) ?_
          refine g_iload_n G dJ7_compress_2_27 rfl (lv_at hl 4 rfl) ?_
          refine g_iload G dJ7_compress_2_28 (lv_at hl 0 rfl) ?_
          refine g_i2b (v := (Int32.toInt8 v1).toInt32) G dJ7_compress_2_30 rfl ?_
          obtain ⟨h2, g2, hf⟩ := bnv_open hf
          refine p_bast X hM g2 dJ7_compress_2_31 (fun H locs hM => ?_)
          refine g_iinc (v := x1 + 1) (lv' := [(1, .int (x1 + 1)), (6, .int v1), (0, .ref a1), (2, .ref a3), (3, .int x2), (4, .int a5), (5, .int x3)]) G dJ7_compress_2_32 hl (k := 2) rfl rfl (Nat.le_of_ble_eq_true rfl) rfl (fun ls hl => ?_)
          refine g_iinc (v := x2 + 1) (lv' := [(3, .int (x2 + 1)), (1, .int (x1 + 1)), (6, .int v1), (0, .ref a1), (2, .ref a3), (4, .int a5), (5, .int x3)]) G dJ7_compress_2_35 hl (k := 4) rfl rfl (Nat.le_of_ble_eq_true rfl) rfl (fun ls hl => ?_)
          refine g_iinc (v := x3 + 1) (lv' := [(5, .int (x3 + 1)), (3, .int (x2 + 1)), (1, .int (x1 + 1)), (6, .int v1), (0, .ref a1), (2, .ref a3), (4, .int a5)]) G dJ7_compress_2_38 hl (k := 6) rfl rfl (Nat.le_of_ble_eq_true rfl) rfl (fun ls hl => ?_)
          refine g_goto (tgt := 3) G dJ7_compress_2_41 rfl ?_
          exact ih3 _ _ _ _ _ _ hf hM ls (lv_sub hl [4, 2, 5, 1, 6, 0] rfl)
        · have hf := it_neg c2 hf
          refine g_iload G dJ7_compress_2_23 (lv_at hl 6 rfl) ?_
          exact p_iret X hM hf dJ7_compress_2_25
  exact L3 FU _ _ _ _ _ _ hf hM ls (lv_sub hl [1, 2, 3, 4, 5, 0] rfl)
theorem pcy_J7_compress : pcY yJ7_compress cJ7_compress 6 (Option.some (Jvm.ClassFile.FieldType.array Jvm.ClassFile.FieldType.byte)) 3 := ⟨q590, q159, ⟨by decide +kernel, by decide +kernel, by decide +kernel⟩, Nat.le_of_ble_eq_true rfl⟩
noncomputable def fJ7_compress (cap : Nat × Nat) (a1 : Nat) (a2 : Int32) (a3 : Int32) (h : PH) : Option (Nat × PH) :=
  ck (!decide (a3 < 0) && decide ((Int32.toNatClampNeg a3) ≤ 100000)) <|
  bnd (pNew cap h (.inl (2, (Int32.toNatClampNeg a3), .inl (fun _ => 0))) (Int32.toNatClampNeg a3)) fun p1 h1 =>
  bnd (fJ7_compress_2 a1 a2 p1 0 a3 h1) fun r1 h2 =>
  if r1 = a3 then
    some (p1, h2)
  else
    none
set_option maxHeartbeats 1000000 in
theorem kJ7_compress {l : Launch} {D : PD} {A : Nat → Prop} {cap : Nat × Nat} {a1 : Nat} {a2 : Int32} {a3 : Int32} {h h' : PH} {r : Nat} (hf : fJ7_compress cap a1 a2 a3 h = some (r, h')) : CMet l D A cap yJ7_compress cJ7_compress 6 (Option.some (Jvm.ClassFile.FieldType.array Jvm.ClassFile.FieldType.byte)) 2 [.ref a1, .int a2, .int a3] h h' (some (.ref r)) := by
  unfold fJ7_compress at hf
  refine p_head (own := RJ7) (ini := false) (pn_J7 rfl) rfl (fun q => by cases q) (Nat.le_of_ble_eq_true rfl) (fun m Z cx sx H0 ls X hM hl => ?_)
  have G := X.g
  have hl : lv_has ls 6 [(0, .ref a1), (1, .int a2), (2, .int a3)] := hl
  refine g_iload_n G dJ7_compress_0 rfl (lv_at hl 2 rfl) ?_
  obtain ⟨b1, hf⟩ := ck_open hf
  obtain ⟨p1, h1, g1, hf⟩ := bnd_open hf
  refine p_newB X hM b1 g1 dJ7_compress_1 (fun H locs hM => ?_)
  refine g_astore_n (i := 3) (lv' := [(3, .ref p1), (0, .ref a1), (1, .int a2), (2, .int a3)]) G dJ7_compress_3 rfl hl (Nat.le_of_ble_eq_true rfl) rfl (fun ls hl => ?_)
  refine g_aload_n G dJ7_compress_4 rfl (lv_at hl 1 rfl) ?_
  refine g_iload_n G dJ7_compress_5 rfl (lv_at hl 2 rfl) ?_
  refine g_aload_n G dJ7_compress_6 rfl (lv_at hl 0 rfl) ?_
  refine g_iconst (v := 0) G dJ7_compress_7 rfl ?_
  refine g_iload_n G dJ7_compress_8 rfl (lv_at hl 3 rfl) ?_
  obtain ⟨r1, h2, g2, hf⟩ := bnd_open hf
  refine p_callS_r (As := [.ref a1, .int a2, .ref p1, .int 0, .int a3]) (rest := []) X hM hl pcy_J7_compress_2 q591 q592 (kJ7_compress_2 g2) rfl (Nat.le_of_ble_eq_true rfl) (Nat.le_of_ble_eq_true rfl) rfl dJ7_compress_9 (fun H locs hM => ?_)
  refine g_istore (lv' := [(4, .int r1), (3, .ref p1), (0, .ref a1), (1, .int a2), (2, .int a3)]) G dJ7_compress_12 hl (Nat.le_of_ble_eq_true rfl) rfl (fun ls hl => ?_)
  refine g_iload G dJ7_compress_14 (lv_at hl 0 rfl) ?_
  refine g_iload_n G dJ7_compress_16 rfl (lv_at hl 4 rfl) ?_
  refine g_icmp_eq (tgt := 57) G dJ7_compress_17 rfl (fun c1 => ?_) (fun c1 => ?_)
  · have hf := it_pos c1 hf
    refine g_aload_n G dJ7_compress_57 rfl (lv_at hl 1 rfl) ?_
    exact p_aret X (Or.inr ⟨_, rfl⟩) hM hf dJ7_compress_58
  · have hf := it_neg c1 hf
    exact absurd hf (by intro q; cases q)
theorem pcy_J7_coderFromArrayLen : pcY yJ7_coderFromArrayLen cJ7_coderFromArrayLen 2 (Option.some Jvm.ClassFile.FieldType.byte) 2 := ⟨q635, q159, ⟨by decide +kernel, by decide +kernel, by decide +kernel⟩, Nat.le_of_ble_eq_true rfl⟩
noncomputable def fJ7_coderFromArrayLen (a1 : Nat) (a2 : Int32) (h : PH) : Option (Int32 × PH) :=
  ob (pArr h a1 2) fun w1 =>
  ck (decide (vp_nar .byte ((Int32.toInt8 (((a2 - (nI w1.1)).toUInt32 >>> (Int32.toUInt32 31 &&& Int32.toUInt32 31)).toInt32)).toInt32) = ((Int32.toInt8 (((a2 - (nI w1.1)).toUInt32 >>> (Int32.toUInt32 31 &&& Int32.toUInt32 31)).toInt32)).toInt32))) <|
  some (((Int32.toInt8 (((a2 - (nI w1.1)).toUInt32 >>> (Int32.toUInt32 31 &&& Int32.toUInt32 31)).toInt32)).toInt32), h)
set_option maxHeartbeats 1000000 in
theorem kJ7_coderFromArrayLen {l : Launch} {D : PD} {A : Nat → Prop} {cap : Nat × Nat} {a1 : Nat} {a2 : Int32} {h h' : PH} {r : Int32} (hf : fJ7_coderFromArrayLen a1 a2 h = some (r, h')) : CMet l D A cap yJ7_coderFromArrayLen cJ7_coderFromArrayLen 2 (Option.some Jvm.ClassFile.FieldType.byte) 1 [.ref a1, .int a2] h h' (some (.int r)) := by
  unfold fJ7_coderFromArrayLen at hf
  refine p_head (own := RJ7) (ini := false) (pn_J7 rfl) rfl (fun q => by cases q) (Nat.le_of_ble_eq_true rfl) (fun m Z cx sx H0 ls X hM hl => ?_)
  have G := X.g
  have hl : lv_has ls 2 [(0, .ref a1), (1, .int a2)] := hl
  refine g_iload_n G dJ7_coderFromArrayLen_0 rfl (lv_at hl 1 rfl) ?_
  refine g_aload_n G dJ7_coderFromArrayLen_1 rfl (lv_at hl 0 rfl) ?_
  obtain ⟨w1, g1, hf⟩ := ob_open hf
  refine p_alen X hM (kd := 2) (by decide) g1 rfl dJ7_coderFromArrayLen_2 ?_
  refine g_isub G dJ7_coderFromArrayLen_3 ?_
  refine g_bipush (v := 31) G dJ7_coderFromArrayLen_4 rfl ?_
  refine g_iushr (v := ((a2 - (nI w1.1)).toUInt32 >>> (Int32.toUInt32 31 &&& Int32.toUInt32 31)).toInt32) G dJ7_coderFromArrayLen_6 rfl ?_
  refine g_i2b (v := (Int32.toInt8 (((a2 - (nI w1.1)).toUInt32 >>> (Int32.toUInt32 31 &&& Int32.toUInt32 31)).toInt32)).toInt32) G dJ7_coderFromArrayLen_7 rfl ?_
  obtain ⟨b1, hf⟩ := ck_open hf
  exact p_tret X hM hf (nar_b b1) dJ7_coderFromArrayLen_8
theorem pcy_J6_init_2 : pcY yJ6_init_2 cJ6_init_2 6 none 4 := ⟨q583, q158, ⟨by decide +kernel, by decide +kernel, by decide +kernel⟩, Nat.le_of_ble_eq_true rfl⟩
noncomputable def fJ6_init_2 (D : PD) (cap : Nat × Nat) (a0 : Nat) (a1 : Nat) (a2 : Int32) (a3 : Int32) (a4 : Option Nat) (h : PH) : Option (PH) :=
  if a3 = 0 then
    none
  else
    vI (some (dS D 4)) fun v1 =>
    if v1 = 0 then
      none
    else
      bnd (fJ7_compress cap a1 a2 a3 h) fun p1 h1 =>
      bnd (fJ7_coderFromArrayLen p1 a3 h1) fun r1 h2 =>
      ck (decide (vp_nar .byte r1 = r1)) <|
      bnv (pPut h2 a0 22 1 (.int r1)) fun h3 =>
      bnv (pPut h3 a0 22 0 (.ref p1)) fun h4 =>
      some h4
set_option maxHeartbeats 1000000 in
theorem kJ6_init_2 {l : Launch} {D : PD} {A : Nat → Prop} {cap : Nat × Nat} {a0 : Nat} {a1 : Nat} {a2 : Int32} {a3 : Int32} {a4 : Option Nat} {h h' : PH} (hf : fJ6_init_2 D cap a0 a1 a2 a3 a4 h = some h') : CMet l D A cap yJ6_init_2 cJ6_init_2 6 none 3 [.ref a0, .ref a1, .int a2, .int a3, va_rf a4] h h' (none) := by
  unfold fJ6_init_2 at hf
  refine p_head (own := RJ6) (ini := true) (pn_J6 rfl) rfl (fun q => rfl) (by simp [lg_sl, cat_q, cat_i, cat_l, cat_r]) (fun m Z cx sx H0 ls X hM hl => ?_)
  have G := X.g
  have hl : lv_has ls 6 [(0, .ref a0), (1, .ref a1), (2, .int a2), (3, .int a3), (4, va_rf a4)] := by simpa [lv_args, cat_q, cat_i, cat_l, cat_r] using hl
  refine g_aload_n G dJ6_init_2_0 rfl (lv_at hl 0 rfl) ?_
  refine p_obj X hl q584 q190 q191 (by decide) (Nat.le_of_ble_eq_true rfl) dJ6_init_2_1 ?_
  refine g_iload_n G dJ6_init_2_4 rfl (lv_at hl 3 rfl) ?_
  refine g_if_ne (tgt := 27) G dJ6_init_2_5 rfl (fun c1 => ?_) (fun c1 => ?_)
  · have hf := it_neg c1 hf
    obtain ⟨v1, g1, hf⟩ := vI_open hf
    refine p_gets X hM (i := 4) rfl q586 dJ6_init_2_27 ?_
    rw [Option.some.inj g1]
    refine g_if_eq (tgt := 58) G dJ6_init_2_30 rfl (fun c2 => ?_) (fun c2 => ?_)
    · have hf := it_pos c2 hf
      exact absurd hf (by intro q; cases q)
    · have hf := it_neg c2 hf
      refine g_aload_n G dJ6_init_2_33 rfl (lv_at hl 1 rfl) ?_
      refine g_iload_n G dJ6_init_2_34 rfl (lv_at hl 2 rfl) ?_
      refine g_iload_n G dJ6_init_2_35 rfl (lv_at hl 3 rfl) ?_
      obtain ⟨p1, h1, g2, hf⟩ := bnd_open hf
      refine p_callS_r (As := [.ref a1, .int a2, .int a3]) (rest := []) X hM hl pcy_J7_compress q588 q589 (kJ7_compress g2) rfl (Nat.le_of_ble_eq_true rfl) (Nat.le_of_ble_eq_true rfl) rfl dJ6_init_2_36 (fun H locs hM => ?_)
      refine g_astore (lv' := [(5, .ref p1), (0, .ref a0), (1, .ref a1), (2, .int a2), (3, .int a3), (4, va_rf a4)]) G dJ6_init_2_39 hl (Nat.le_of_ble_eq_true rfl) (by simp [cat_q, cat_i, cat_l, cat_r]) (fun ls hl => ?_)
      refine g_aload_n G dJ6_init_2_41 rfl (lv_at hl 1 rfl) ?_
      refine g_aload G dJ6_init_2_42 (lv_at hl 0 rfl) ?_
      refine g_iload_n G dJ6_init_2_44 rfl (lv_at hl 4 rfl) ?_
      obtain ⟨r1, h2, g3, hf⟩ := bnd_open hf
      refine p_callS_r (As := [.ref p1, .int a3]) (rest := [.ref a0]) X hM hl pcy_J7_coderFromArrayLen q633 q634 (kJ7_coderFromArrayLen g3) rfl (Nat.le_of_ble_eq_true rfl) (Nat.le_of_ble_eq_true rfl) rfl dJ6_init_2_45 (fun H locs hM => ?_)
      obtain ⟨b1, hf⟩ := ck_open hf
      obtain ⟨h3, g4, hf⟩ := bnv_open hf
      refine p_putF (k := 1) X hM pc_22 (by decide) q638 rfl rfl rfl (nar_b b1) (fit_b b1) g4 dJ6_init_2_48 (fun H locs hM => ?_)
      refine g_aload_n G dJ6_init_2_51 rfl (lv_at hl 1 rfl) ?_
      refine g_aload G dJ6_init_2_52 (lv_at hl 0 rfl) ?_
      obtain ⟨h4, g5, hf⟩ := bnv_open hf
      refine p_putF (k := 0) X hM pc_22 (by decide) q637 rfl rfl rfl rfl rfl g5 dJ6_init_2_54 (fun H locs hM => ?_)
      exact p_vret X hM hf dJ6_init_2_57
  · have hf := it_pos c1 hf
    refine g_aload_n G dJ6_init_2_8 rfl (lv_at hl 0 rfl) ?_
    exact absurd hf (by intro q; cases q)
theorem pcy_J6_init : pcY yJ6_init cJ6_init 2 none 1 := ⟨q580, q158, ⟨by decide +kernel, by decide +kernel, by decide +kernel⟩, Nat.le_of_ble_eq_true rfl⟩
noncomputable def fJ6_init (D : PD) (cap : Nat × Nat) (a0 : Nat) (a1 : Nat) (h : PH) : Option (PH) :=
  ob (pArr h a1 3) fun w1 =>
  bnv (fJ6_init_2 D cap a0 a1 0 (nI w1.1) none h) fun h1 =>
  some h1
set_option maxHeartbeats 1000000 in
theorem kJ6_init {l : Launch} {D : PD} {A : Nat → Prop} {cap : Nat × Nat} {a0 : Nat} {a1 : Nat} {h h' : PH} (hf : fJ6_init D cap a0 a1 h = some h') : CMet l D A cap yJ6_init cJ6_init 2 none 4 [.ref a0, .ref a1] h h' (none) := by
  unfold fJ6_init at hf
  refine p_head (own := RJ6) (ini := true) (pn_J6 rfl) rfl (fun q => rfl) (Nat.le_of_ble_eq_true rfl) (fun m Z cx sx H0 ls X hM hl => ?_)
  have G := X.g
  have hl : lv_has ls 2 [(0, .ref a0), (1, .ref a1)] := hl
  refine g_aload_n G dJ6_init_0 rfl (lv_at hl 0 rfl) ?_
  refine g_aload_n G dJ6_init_1 rfl (lv_at hl 1 rfl) ?_
  refine g_iconst (v := 0) G dJ6_init_2 rfl ?_
  refine g_aload_n G dJ6_init_3 rfl (lv_at hl 1 rfl) ?_
  obtain ⟨w1, g1, hf⟩ := ob_open hf
  refine p_alen X hM (kd := 3) (by decide) g1 rfl dJ6_init_4 ?_
  refine g_null G dJ6_init_5 ?_
  obtain ⟨h1, g2, hf⟩ := bnv_open hf
  refine p_callI_v (As := [.ref a1, .int 0, .int (nI w1.1), va_rf none]) (rest := []) X hM hl pcy_J6_init_2 rfl q581 q582 (kJ6_init_2 g2) rfl (Nat.le_of_ble_eq_true rfl) (Nat.le_of_ble_eq_true rfl) rfl dJ6_init_6 (fun H locs hM => ?_)
  exact p_vret X hM hf dJ6_init_9
theorem pcy_J6_valueOf : pcY yJ6_valueOf cJ6_valueOf 1 (Option.some (Jvm.ClassFile.FieldType.object "java/lang/String")) 1 := ⟨q575, q158, ⟨by decide +kernel, by decide +kernel, by decide +kernel⟩, Nat.le_of_ble_eq_true rfl⟩
noncomputable def fJ6_valueOf (D : PD) (cap : Nat × Nat) (a1 : Nat) (h : PH) : Option (Nat × PH) :=
  bnd (pNew cap h (.inr (22, [.null, .int 0, .int 0, .int 0])) 4) fun p1 h1 =>
  bnv (fJ6_init D cap p1 a1 h1) fun h2 =>
  some (p1, h2)
set_option maxHeartbeats 1000000 in
theorem kJ6_valueOf {l : Launch} {D : PD} {A : Nat → Prop} {cap : Nat × Nat} {a1 : Nat} {h h' : PH} {r : Nat} (hf : fJ6_valueOf D cap a1 h = some (r, h')) : CMet l D A cap yJ6_valueOf cJ6_valueOf 1 (Option.some (Jvm.ClassFile.FieldType.object "java/lang/String")) 5 [.ref a1] h h' (some (.ref r)) := by
  unfold fJ6_valueOf at hf
  refine p_head (own := RJ6) (ini := false) (pn_J6 rfl) rfl (fun q => by cases q) (Nat.le_of_ble_eq_true rfl) (fun m Z cx sx H0 ls X hM hl => ?_)
  have G := X.g
  have hl : lv_has ls 1 [(0, .ref a1)] := hl
  obtain ⟨p1, h1, g1, hf⟩ := bnd_open hf
  refine p_new X hM pc_22 q576 q577 q158 (by decide +kernel) g1 dJ6_valueOf_0 (fun H locs hM => ?_)
  refine g_dup G dJ6_valueOf_3 rfl ?_
  refine g_aload_n G dJ6_valueOf_4 rfl (lv_at hl 0 rfl) ?_
  obtain ⟨h2, g2, hf⟩ := bnv_open hf
  refine p_callI_v (As := [.ref a1]) (rest := [.ref p1]) X hM hl pcy_J6_init rfl q578 q579 (kJ6_init g2) rfl (Nat.le_of_ble_eq_true rfl) (Nat.le_of_ble_eq_true rfl) rfl dJ6_valueOf_5 (fun H locs hM => ?_)
  exact p_aret X (Or.inl ⟨_, rfl⟩) hM hf dJ6_valueOf_8
theorem pcy_J3_init_2 : pcY yJ3_init_2 cJ3_init_2 5 none 4 := ⟨q326, q151, ⟨by decide +kernel, by decide +kernel, by decide +kernel⟩, Nat.le_of_ble_eq_true rfl⟩
noncomputable def fJ3_init_2 (D : PD) (a0 : Nat) (a1 : Option Nat) (a2 : Option Nat) (a3 : Bool) (a4 : Bool) (h : PH) : Option (PH) :=
  bnv (pPut h a0 3 0 (.ref a0)) fun h1 =>
  vQ (some (dS D 8)) fun q1 =>
  bnv (pPut h1 a0 3 1 (va_rf q1)) fun h2 =>
  vQ (some (dS D 9)) fun q2 =>
  bnv (pPut h2 a0 3 2 (va_rf q2)) fun h3 =>
  if (bI a4) = 0 then
    bnv (pPut h3 a0 3 1 (.null)) fun h4 =>
    bnv (pPut h4 a0 3 3 (va_rf a1)) fun h5 =>
    bnv (pPut h5 a0 3 0 (va_rf a2)) fun h6 =>
    if (bI a3) = 0 then
      bnv (pPut h6 a0 3 2 (.null)) fun h7 =>
      some h7
    else
      some h6
  else
    none
set_option maxHeartbeats 1000000 in
theorem kJ3_init_2 {l : Launch} {D : PD} {A : Nat → Prop} {cap : Nat × Nat} {a0 : Nat} {a1 : Option Nat} {a2 : Option Nat} {a3 : Bool} {a4 : Bool} {h h' : PH} (hf : fJ3_init_2 D a0 a1 a2 a3 a4 h = some h') : CMet l D A cap yJ3_init_2 cJ3_init_2 5 none 2 [.ref a0, va_rf a1, va_rf a2, .int (bI a3), .int (bI a4)] h h' (none) := by
  unfold fJ3_init_2 at hf
  refine p_head (own := RJ3) (ini := true) (pn_J3 rfl) rfl (fun q => rfl) (by simp [lg_sl, cat_q, cat_i, cat_l, cat_r]) (fun m Z cx sx H0 ls X hM hl => ?_)
  have G := X.g
  have hl : lv_has ls 5 [(0, .ref a0), (1, va_rf a1), (2, va_rf a2), (3, .int (bI a3)), (4, .int (bI a4))] := by simpa [lv_args, cat_q, cat_i, cat_l, cat_r] using hl
  refine g_aload_n G dJ3_init_2_0 rfl (lv_at hl 0 rfl) ?_
  refine p_obj X hl q301 q190 q191 (by decide) (Nat.le_of_ble_eq_true rfl) dJ3_init_2_1 ?_
  refine g_aload_n G dJ3_init_2_4 rfl (lv_at hl 0 rfl) ?_
  refine g_aload_n G dJ3_init_2_5 rfl (lv_at hl 0 rfl) ?_
  obtain ⟨h1, g1, hf⟩ := bnv_open hf
  refine p_put (k := 0) X hM pc_3 (by decide) q333 rfl rfl rfl rfl g1 dJ3_init_2_6 (fun H locs hM => ?_)
  refine g_aload_n G dJ3_init_2_9 rfl (lv_at hl 0 rfl) ?_
  obtain ⟨q1, g2, hf⟩ := vQ_open hf
  refine p_gets X hM (i := 8) rfl q302 dJ3_init_2_10 ?_
  rw [Option.some.inj g2]
  obtain ⟨h2, g3, hf⟩ := bnv_open hf
  refine p_put (k := 1) X hM pc_3 (by decide) q334 rfl rfl (nar_qa _ _) (fit_qa _ _) g3 dJ3_init_2_13 (fun H locs hM => ?_)
  refine g_aload_n G dJ3_init_2_16 rfl (lv_at hl 0 rfl) ?_
  obtain ⟨q2, g4, hf⟩ := vQ_open hf
  refine p_gets X hM (i := 9) rfl q304 dJ3_init_2_17 ?_
  rw [Option.some.inj g4]
  obtain ⟨h3, g5, hf⟩ := bnv_open hf
  refine p_put (k := 2) X hM pc_3 (by decide) q335 rfl rfl (nar_q _ _) (fit_q _ _) g5 dJ3_init_2_20 (fun H locs hM => ?_)
  refine g_iload G dJ3_init_2_23 (lv_at hl 4 rfl) ?_
  refine g_if_eq (tgt := 36) G dJ3_init_2_25 rfl (fun c1 => ?_) (fun c1 => ?_)
  · have hf := it_pos c1 hf
    refine g_aload_n G dJ3_init_2_36 rfl (lv_at hl 0 rfl) ?_
    refine g_null G dJ3_init_2_37 ?_
    obtain ⟨h4, g6, hf⟩ := bnv_open hf
    refine p_put (k := 1) X hM pc_3 (by decide) q334 rfl rfl rfl rfl g6 dJ3_init_2_38 (fun H locs hM => ?_)
    refine g_aload_n G dJ3_init_2_41 rfl (lv_at hl 0 rfl) ?_
    refine g_aload_nQ G dJ3_init_2_42 rfl (lv_at hl 1 rfl) ?_
    obtain ⟨h5, g7, hf⟩ := bnv_open hf
    refine p_put (k := 3) X hM pc_3 (by decide) q332 rfl rfl (nar_q _ _) (fit_q _ _) g7 dJ3_init_2_43 (fun H locs hM => ?_)
    refine g_aload_n G dJ3_init_2_46 rfl (lv_at hl 0 rfl) ?_
    refine g_aload_nQ G dJ3_init_2_47 rfl (lv_at hl 2 rfl) ?_
    obtain ⟨h6, g8, hf⟩ := bnv_open hf
    refine p_put (k := 0) X hM pc_3 (by decide) q333 rfl rfl (nar_q _ _) (fit_q _ _) g8 dJ3_init_2_48 (fun H locs hM => ?_)
    refine g_iload_n G dJ3_init_2_51 rfl (lv_at hl 3 rfl) ?_
    refine g_if_ne (tgt := 60) G dJ3_init_2_52 rfl (fun c2 => ?_) (fun c2 => ?_)
    · have hf := it_neg c2 hf
      exact p_vret X hM hf dJ3_init_2_60
    · have hf := it_pos c2 hf
      refine g_aload_n G dJ3_init_2_55 rfl (lv_at hl 0 rfl) ?_
      refine g_null G dJ3_init_2_56 ?_
      obtain ⟨h7, g9, hf⟩ := bnv_open hf
      refine p_put (k := 2) X hM pc_3 (by decide) q335 rfl rfl rfl rfl g9 dJ3_init_2_57 (fun H locs hM => ?_)
      exact p_vret X hM hf dJ3_init_2_60
  · have hf := it_neg c1 hf
    exact absurd hf (by intro q; cases q)
theorem pcy_J4_init : pcY yJ4_init cJ4_init 5 none 4 := ⟨q323, q152, ⟨by decide +kernel, by decide +kernel, by decide +kernel⟩, Nat.le_of_ble_eq_true rfl⟩
noncomputable def fJ4_init (D : PD) (a0 : Nat) (a1 : Option Nat) (a2 : Option Nat) (a3 : Bool) (a4 : Bool) (h : PH) : Option (PH) :=
  bnv (fJ3_init_2 D a0 a1 a2 a3 a4 h) fun h1 =>
  some h1
set_option maxHeartbeats 1000000 in
theorem kJ4_init {l : Launch} {D : PD} {A : Nat → Prop} {cap : Nat × Nat} {a0 : Nat} {a1 : Option Nat} {a2 : Option Nat} {a3 : Bool} {a4 : Bool} {h h' : PH} (hf : fJ4_init D a0 a1 a2 a3 a4 h = some h') : CMet l D A cap yJ4_init cJ4_init 5 none 3 [.ref a0, va_rf a1, va_rf a2, .int (bI a3), .int (bI a4)] h h' (none) := by
  unfold fJ4_init at hf
  refine p_head (own := RJ4) (ini := true) (pn_J4 rfl) rfl (fun q => rfl) (by simp [lg_sl, cat_q, cat_i, cat_l, cat_r]) (fun m Z cx sx H0 ls X hM hl => ?_)
  have G := X.g
  have hl : lv_has ls 5 [(0, .ref a0), (1, va_rf a1), (2, va_rf a2), (3, .int (bI a3)), (4, .int (bI a4))] := by simpa [lv_args, cat_q, cat_i, cat_l, cat_r] using hl
  refine g_aload_n G dJ4_init_0 rfl (lv_at hl 0 rfl) ?_
  refine g_aload_nQ G dJ4_init_1 rfl (lv_at hl 1 rfl) ?_
  refine g_aload_nQ G dJ4_init_2 rfl (lv_at hl 2 rfl) ?_
  refine g_iload_n G dJ4_init_3 rfl (lv_at hl 3 rfl) ?_
  refine g_iload G dJ4_init_4 (lv_at hl 4 rfl) ?_
  obtain ⟨h1, g1, hf⟩ := bnv_open hf
  refine p_callI_v (As := [va_rf a1, va_rf a2, .int (bI a3), .int (bI a4)]) (rest := []) X hM hl pcy_J3_init_2 rfl q324 q325 (kJ3_init_2 g1) rfl (Nat.le_of_ble_eq_true rfl) (Nat.le_of_ble_eq_true rfl) rfl dJ4_init_6 (fun H locs hM => ?_)
  exact p_vret X hM hf dJ4_init_9
theorem pcy_J5_init : pcY yJ5_init cJ5_init 5 none 4 := ⟨q320, q153, ⟨by decide +kernel, by decide +kernel, by decide +kernel⟩, Nat.le_of_ble_eq_true rfl⟩
noncomputable def fJ5_init (D : PD) (a0 : Nat) (a1 : Option Nat) (a2 : Option Nat) (a3 : Bool) (a4 : Bool) (h : PH) : Option (PH) :=
  bnv (fJ4_init D a0 a1 a2 a3 a4 h) fun h1 =>
  some h1
set_option maxHeartbeats 1000000 in
theorem kJ5_init {l : Launch} {D : PD} {A : Nat → Prop} {cap : Nat × Nat} {a0 : Nat} {a1 : Option Nat} {a2 : Option Nat} {a3 : Bool} {a4 : Bool} {h h' : PH} (hf : fJ5_init D a0 a1 a2 a3 a4 h = some h') : CMet l D A cap yJ5_init cJ5_init 5 none 4 [.ref a0, va_rf a1, va_rf a2, .int (bI a3), .int (bI a4)] h h' (none) := by
  unfold fJ5_init at hf
  refine p_head (own := RJ5) (ini := true) (pn_J5 rfl) rfl (fun q => rfl) (by simp [lg_sl, cat_q, cat_i, cat_l, cat_r]) (fun m Z cx sx H0 ls X hM hl => ?_)
  have G := X.g
  have hl : lv_has ls 5 [(0, .ref a0), (1, va_rf a1), (2, va_rf a2), (3, .int (bI a3)), (4, .int (bI a4))] := by simpa [lv_args, cat_q, cat_i, cat_l, cat_r] using hl
  refine g_aload_n G dJ5_init_0 rfl (lv_at hl 0 rfl) ?_
  refine g_aload_nQ G dJ5_init_1 rfl (lv_at hl 1 rfl) ?_
  refine g_aload_nQ G dJ5_init_2 rfl (lv_at hl 2 rfl) ?_
  refine g_iload_n G dJ5_init_3 rfl (lv_at hl 3 rfl) ?_
  refine g_iload G dJ5_init_4 (lv_at hl 4 rfl) ?_
  obtain ⟨h1, g1, hf⟩ := bnv_open hf
  refine p_callI_v (As := [va_rf a1, va_rf a2, .int (bI a3), .int (bI a4)]) (rest := []) X hM hl pcy_J4_init rfl q321 q322 (kJ4_init g1) rfl (Nat.le_of_ble_eq_true rfl) (Nat.le_of_ble_eq_true rfl) rfl dJ5_init_6 (fun H locs hM => ?_)
  exact p_vret X hM hf dJ5_init_9
theorem pcy_X3_init : pcY yX3_init cX3_init 1 none 0 := ⟨q317, q154, ⟨by decide +kernel, by decide +kernel, by decide +kernel⟩, Nat.le_of_ble_eq_true rfl⟩
noncomputable def fX3_init (D : PD) (a0 : Nat) (h : PH) : Option (PH) :=
  bnv (fJ5_init D a0 none none false false h) fun h1 =>
  some h1
set_option maxHeartbeats 1000000 in
theorem kX3_init {l : Launch} {D : PD} {A : Nat → Prop} {cap : Nat × Nat} {a0 : Nat} {h h' : PH} (hf : fX3_init D a0 h = some h') : CMet l D A cap yX3_init cX3_init 1 none 5 [.ref a0] h h' (none) := by
  unfold fX3_init at hf
  refine p_head (own := RX3) (ini := true) (pn_X3 rfl) rfl (fun q => rfl) (Nat.le_of_ble_eq_true rfl) (fun m Z cx sx H0 ls X hM hl => ?_)
  have G := X.g
  have hl : lv_has ls 1 [(0, .ref a0)] := hl
  refine g_aload_n G dX3_init_0 rfl (lv_at hl 0 rfl) ?_
  refine g_null G dX3_init_1 ?_
  refine g_null G dX3_init_2 ?_
  refine g_iconst (v := 0) G dX3_init_3 rfl ?_
  refine g_iconst (v := 0) G dX3_init_4 rfl ?_
  obtain ⟨h1, g1, hf⟩ := bnv_open hf
  refine p_callI_v (As := [va_rf none, va_rf none, .int (bI false), .int (bI false)]) (rest := []) X hM hl pcy_J5_init rfl q318 q319 (kJ5_init g1) rfl (Nat.le_of_ble_eq_true rfl) (Nat.le_of_ble_eq_true rfl) rfl dX3_init_5 (fun H locs hM => ?_)
  exact p_vret X hM hf dX3_init_8
