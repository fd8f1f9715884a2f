/-! PART 22: the Model's methods as plain functions, and their contracts (printed by decomp.py) -/
set_option maxRecDepth 100000

theorem mc_masterOf : mcV yX6_masterOf cX6_masterOf 2 (some .int) 1 410 := ⟨lw_V q2190 q2192 qs105 q157 q2193, ⟨rfl, by decide +kernel, by decide +kernel, by decide +kernel⟩, Nat.le_of_ble_eq_true rfl⟩
noncomputable def m_masterOf (a1 : Int32) (z : MS) : Option (Int32 × MS) :=
  ck (inb (1 + (5 * a1)) (mN 53)) <|
  some ((mA z 53 (Int32.toNatClampNeg (1 + (5 * a1)))), z)
set_option maxHeartbeats 1000000 in
theorem c_masterOf {l : Launch} {D : MD} {o : Nat} {ad : Nat → Nat} {a1 : Int32} {z z' : MS} {r : Int32} (hf : m_masterOf a1 z = some (r, z')) : MMet l D o ad yX6_masterOf cX6_masterOf 2 (some .int) 1 [.ref o, .int a1] z z' (some (.int r)) := by
  unfold m_masterOf at hf
  refine m_head pnX6 rfl (Nat.le_of_ble_eq_true rfl) (fun m Z H0 ls X hM hl => ?_)
  have G := X.g
  have hl : lv_has ls 2 [(0, .ref o), (1, .int a1)] := hl
  refine g_aload_n G dX6_masterOf_0 rfl (lv_at hl 0 rfl) ?_
  refine mg_a X hM mf_53 dX6_masterOf_1 ?_
  refine g_iconst (v := 1) G dX6_masterOf_4 rfl ?_
  refine g_iconst (v := 5) G dX6_masterOf_5 rfl ?_
  refine g_iload_n G dX6_masterOf_6 rfl (lv_at hl 1 rfl) ?_
  refine g_imul G dX6_masterOf_7 ?_
  refine g_iadd G dX6_masterOf_8 ?_
  obtain ⟨b1, hf⟩ := ck_open hf
  refine m_iald X hM (mIs.of mf_53) b1 dX6_masterOf_9 ?_
  exact m_iret X hM hf dX6_masterOf_10
theorem mc_rightOf : mcV yX6_rightOf cX6_rightOf 2 (some .int) 1 404 := ⟨lw_V q2149 q2151 qs98 q157 q2152, ⟨rfl, by decide +kernel, by decide +kernel, by decide +kernel⟩, Nat.le_of_ble_eq_true rfl⟩
noncomputable def m_rightOf (a1 : Int32) (z : MS) : Option (Int32 × MS) :=
  ck (inb ((1 + (5 * a1)) + 1) (mN 53)) <|
  some ((mA z 53 (Int32.toNatClampNeg ((1 + (5 * a1)) + 1))), z)
set_option maxHeartbeats 1000000 in
theorem c_rightOf {l : Launch} {D : MD} {o : Nat} {ad : Nat → Nat} {a1 : Int32} {z z' : MS} {r : Int32} (hf : m_rightOf a1 z = some (r, z')) : MMet l D o ad yX6_rightOf cX6_rightOf 2 (some .int) 1 [.ref o, .int a1] z z' (some (.int r)) := by
  unfold m_rightOf at hf
  refine m_head pnX6 rfl (Nat.le_of_ble_eq_true rfl) (fun m Z H0 ls X hM hl => ?_)
  have G := X.g
  have hl : lv_has ls 2 [(0, .ref o), (1, .int a1)] := hl
  refine g_aload_n G dX6_rightOf_0 rfl (lv_at hl 0 rfl) ?_
  refine mg_a X hM mf_53 dX6_rightOf_1 ?_
  refine g_iconst (v := 1) G dX6_rightOf_4 rfl ?_
  refine g_iconst (v := 5) G dX6_rightOf_5 rfl ?_
  refine g_iload_n G dX6_rightOf_6 rfl (lv_at hl 1 rfl) ?_
  refine g_imul G dX6_rightOf_7 ?_
  refine g_iadd G dX6_rightOf_8 ?_
  refine g_iconst (v := 1) G dX6_rightOf_9 rfl ?_
  refine g_iadd G dX6_rightOf_10 ?_
  obtain ⟨b1, hf⟩ := ck_open hf
  refine m_iald X hM (mIs.of mf_53) b1 dX6_rightOf_11 ?_
  exact m_iret X hM hf dX6_rightOf_12
theorem mc_wrongOf : mcV yX6_wrongOf cX6_wrongOf 2 (some .int) 1 407 := ⟨lw_V q2153 q2155 qs99 q157 q2156, ⟨rfl, by decide +kernel, by decide +kernel, by decide +kernel⟩, Nat.le_of_ble_eq_true rfl⟩
noncomputable def m_wrongOf (a1 : Int32) (z : MS) : Option (Int32 × MS) :=
  ck (inb ((1 + (5 * a1)) + 2) (mN 53)) <|
  some ((mA z 53 (Int32.toNatClampNeg ((1 + (5 * a1)) + 2))), z)
set_option maxHeartbeats 1000000 in
theorem c_wrongOf {l : Launch} {D : MD} {o : Nat} {ad : Nat → Nat} {a1 : Int32} {z z' : MS} {r : Int32} (hf : m_wrongOf a1 z = some (r, z')) : MMet l D o ad yX6_wrongOf cX6_wrongOf 2 (some .int) 1 [.ref o, .int a1] z z' (some (.int r)) := by
  unfold m_wrongOf at hf
  refine m_head pnX6 rfl (Nat.le_of_ble_eq_true rfl) (fun m Z H0 ls X hM hl => ?_)
  have G := X.g
  have hl : lv_has ls 2 [(0, .ref o), (1, .int a1)] := hl
  refine g_aload_n G dX6_wrongOf_0 rfl (lv_at hl 0 rfl) ?_
  refine mg_a X hM mf_53 dX6_wrongOf_1 ?_
  refine g_iconst (v := 1) G dX6_wrongOf_4 rfl ?_
  refine g_iconst (v := 5) G dX6_wrongOf_5 rfl ?_
  refine g_iload_n G dX6_wrongOf_6 rfl (lv_at hl 1 rfl) ?_
  refine g_imul G dX6_wrongOf_7 ?_
  refine g_iadd G dX6_wrongOf_8 ?_
  refine g_iconst (v := 2) G dX6_wrongOf_9 rfl ?_
  refine g_iadd G dX6_wrongOf_10 ?_
  obtain ⟨b1, hf⟩ := ck_open hf
  refine m_iald X hM (mIs.of mf_53) b1 dX6_wrongOf_11 ?_
  exact m_iret X hM hf dX6_wrongOf_12
theorem mc_leftOf : mcV yX6_leftOf cX6_leftOf 2 (some .int) 1 450 := ⟨lw_V q2198 q2200 qs107 q157 q2201, ⟨rfl, by decide +kernel, by decide +kernel, by decide +kernel⟩, Nat.le_of_ble_eq_true rfl⟩
noncomputable def m_leftOf (a1 : Int32) (z : MS) : Option (Int32 × MS) :=
  ck (inb ((1 + (5 * a1)) + 3) (mN 53)) <|
  some ((mA z 53 (Int32.toNatClampNeg ((1 + (5 * a1)) + 3))), z)
set_option maxHeartbeats 1000000 in
theorem c_leftOf {l : Launch} {D : MD} {o : Nat} {ad : Nat → Nat} {a1 : Int32} {z z' : MS} {r : Int32} (hf : m_leftOf a1 z = some (r, z')) : MMet l D o ad yX6_leftOf cX6_leftOf 2 (some .int) 1 [.ref o, .int a1] z z' (some (.int r)) := by
  unfold m_leftOf at hf
  refine m_head pnX6 rfl (Nat.le_of_ble_eq_true rfl) (fun m Z H0 ls X hM hl => ?_)
  have G := X.g
  have hl : lv_has ls 2 [(0, .ref o), (1, .int a1)] := hl
  refine g_aload_n G dX6_leftOf_0 rfl (lv_at hl 0 rfl) ?_
  refine mg_a X hM mf_53 dX6_leftOf_1 ?_
  refine g_iconst (v := 1) G dX6_leftOf_4 rfl ?_
  refine g_iconst (v := 5) G dX6_leftOf_5 rfl ?_
  refine g_iload_n G dX6_leftOf_6 rfl (lv_at hl 1 rfl) ?_
  refine g_imul G dX6_leftOf_7 ?_
  refine g_iadd G dX6_leftOf_8 ?_
  refine g_iconst (v := 3) G dX6_leftOf_9 rfl ?_
  refine g_iadd G dX6_leftOf_10 ?_
  obtain ⟨b1, hf⟩ := ck_open hf
  refine m_iald X hM (mIs.of mf_53) b1 dX6_leftOf_11 ?_
  exact m_iret X hM hf dX6_leftOf_12
theorem mc_hasPassed : mcV yX6_hasPassed cX6_hasPassed 2 (some .boolean) 1 447 := ⟨lw_V q2202 q2204 qs108 q157 q2205, ⟨rfl, by decide +kernel, by decide +kernel, by decide +kernel⟩, Nat.le_of_ble_eq_true rfl⟩
noncomputable def m_hasPassed (a1 : Int32) (z : MS) : Option (Bool × MS) :=
  ck (inb ((1 + (5 * a1)) + 4) (mN 53)) <|
  if ((mA z 53 (Int32.toNatClampNeg ((1 + (5 * a1)) + 4))) &&& 1) = 0 then
    some (false, z)
  else
    some (true, z)
set_option maxHeartbeats 1000000 in
theorem c_hasPassed {l : Launch} {D : MD} {o : Nat} {ad : Nat → Nat} {a1 : Int32} {z z' : MS} {r : Bool} (hf : m_hasPassed a1 z = some (r, z')) : MMet l D o ad yX6_hasPassed cX6_hasPassed 2 (some .boolean) 1 [.ref o, .int a1] z z' (some (.int (bI r))) := by
  unfold m_hasPassed at hf
  refine m_head pnX6 rfl (Nat.le_of_ble_eq_true rfl) (fun m Z H0 ls X hM hl => ?_)
  have G := X.g
  have hl : lv_has ls 2 [(0, .ref o), (1, .int a1)] := hl
  refine g_aload_n G dX6_hasPassed_0 rfl (lv_at hl 0 rfl) ?_
  refine mg_a X hM mf_53 dX6_hasPassed_1 ?_
  refine g_iconst (v := 1) G dX6_hasPassed_4 rfl ?_
  refine g_iconst (v := 5) G dX6_hasPassed_5 rfl ?_
  refine g_iload_n G dX6_hasPassed_6 rfl (lv_at hl 1 rfl) ?_
  refine g_imul G dX6_hasPassed_7 ?_
  refine g_iadd G dX6_hasPassed_8 ?_
  refine g_iconst (v := 4) G dX6_hasPassed_9 rfl ?_
  refine g_iadd G dX6_hasPassed_10 ?_
  obtain ⟨b1, hf⟩ := ck_open hf
  refine m_iald X hM (mIs.of mf_53) b1 dX6_hasPassed_11 ?_
  refine g_iconst (v := 1) G dX6_hasPassed_12 rfl ?_
  refine g_iand G dX6_hasPassed_13 ?_
  refine g_if_eq (tgt := 21) G dX6_hasPassed_14 rfl (fun c1 => ?_) (fun c1 => ?_)
  · have hf := it_pos c1 hf
    refine g_iconst (v := 0) G dX6_hasPassed_21 rfl ?_
    exact m_zret X hM hf dX6_hasPassed_22
  · have hf := it_neg c1 hf
    refine g_iconst (v := 1) G dX6_hasPassed_17 rfl ?_
    refine g_goto (tgt := 22) G dX6_hasPassed_18 rfl ?_
    exact m_zret X hM hf dX6_hasPassed_22
theorem mc_isDoctor : mcV yX6_isDoctor cX6_isDoctor 2 (some .boolean) 1 471 := ⟨lw_V q2206 q2208 qs109 q157 q2209, ⟨rfl, by decide +kernel, by decide +kernel, by decide +kernel⟩, Nat.le_of_ble_eq_true rfl⟩
noncomputable def m_isDoctor (a1 : Int32) (z : MS) : Option (Bool × MS) :=
  ck (inb ((1 + (5 * a1)) + 4) (mN 53)) <|
  if ((mA z 53 (Int32.toNatClampNeg ((1 + (5 * a1)) + 4))) &&& 2) = 0 then
    some (false, z)
  else
    some (true, z)
set_option maxHeartbeats 1000000 in
theorem c_isDoctor {l : Launch} {D : MD} {o : Nat} {ad : Nat → Nat} {a1 : Int32} {z z' : MS} {r : Bool} (hf : m_isDoctor a1 z = some (r, z')) : MMet l D o ad yX6_isDoctor cX6_isDoctor 2 (some .boolean) 1 [.ref o, .int a1] z z' (some (.int (bI r))) := by
  unfold m_isDoctor at hf
  refine m_head pnX6 rfl (Nat.le_of_ble_eq_true rfl) (fun m Z H0 ls X hM hl => ?_)
  have G := X.g
  have hl : lv_has ls 2 [(0, .ref o), (1, .int a1)] := hl
  refine g_aload_n G dX6_isDoctor_0 rfl (lv_at hl 0 rfl) ?_
  refine mg_a X hM mf_53 dX6_isDoctor_1 ?_
  refine g_iconst (v := 1) G dX6_isDoctor_4 rfl ?_
  refine g_iconst (v := 5) G dX6_isDoctor_5 rfl ?_
  refine g_iload_n G dX6_isDoctor_6 rfl (lv_at hl 1 rfl) ?_
  refine g_imul G dX6_isDoctor_7 ?_
  refine g_iadd G dX6_isDoctor_8 ?_
  refine g_iconst (v := 4) G dX6_isDoctor_9 rfl ?_
  refine g_iadd G dX6_isDoctor_10 ?_
  obtain ⟨b1, hf⟩ := ck_open hf
  refine m_iald X hM (mIs.of mf_53) b1 dX6_isDoctor_11 ?_
  refine g_iconst (v := 2) G dX6_isDoctor_12 rfl ?_
  refine g_iand G dX6_isDoctor_13 ?_
  refine g_if_eq (tgt := 21) G dX6_isDoctor_14 rfl (fun c1 => ?_) (fun c1 => ?_)
  · have hf := it_pos c1 hf
    refine g_iconst (v := 0) G dX6_isDoctor_21 rfl ?_
    exact m_zret X hM hf dX6_isDoctor_22
  · have hf := it_neg c1 hf
    refine g_iconst (v := 1) G dX6_isDoctor_17 rfl ?_
    refine g_goto (tgt := 22) G dX6_isDoctor_18 rfl ?_
    exact m_zret X hM hf dX6_isDoctor_22
theorem mc_becomes : mcV yX6_becomes cX6_becomes 3 (none) 2 456 := ⟨lw_V q2293 q2295 qs124 q157 q2296, ⟨rfl, by decide +kernel, by decide +kernel, by decide +kernel⟩, Nat.le_of_ble_eq_true rfl⟩
noncomputable def m_becomes (a1 : Int32) (a2 : Int32) (z : MS) : Option (MS) :=
  ck (inb ((1 + (5 * a1)) + 4) (mN 53)) <|
  ck (inb ((1 + (5 * a1)) + 4) (mN 53)) <|
  nm (wA z 53 (Int32.toNatClampNeg ((1 + (5 * a1)) + 4)) ((mA z 53 (Int32.toNatClampNeg ((1 + (5 * a1)) + 4))) ||| a2)) fun z1 =>
  some z1
set_option maxHeartbeats 1000000 in
theorem c_becomes {l : Launch} {D : MD} {o : Nat} {ad : Nat → Nat} {a1 : Int32} {a2 : Int32} {z z' : MS} (hf : m_becomes a1 a2 z = some z') : MMet l D o ad yX6_becomes cX6_becomes 3 (none) 1 [.ref o, .int a1, .int a2] z z' (none) := by
  unfold m_becomes at hf
  refine m_head pnX6 rfl (Nat.le_of_ble_eq_true rfl) (fun m Z H0 ls X hM hl => ?_)
  have G := X.g
  have hl : lv_has ls 3 [(0, .ref o), (1, .int a1), (2, .int a2)] := hl
  refine g_aload_n G dX6_becomes_0 rfl (lv_at hl 0 rfl) ?_
  refine mg_a X hM mf_53 dX6_becomes_1 ?_
  refine g_iconst (v := 1) G dX6_becomes_4 rfl ?_
  refine g_iconst (v := 5) G dX6_becomes_5 rfl ?_
  refine g_iload_n G dX6_becomes_6 rfl (lv_at hl 1 rfl) ?_
  refine g_imul G dX6_becomes_7 ?_
  refine g_iadd G dX6_becomes_8 ?_
  refine g_iconst (v := 4) G dX6_becomes_9 rfl ?_
  refine g_iadd G dX6_becomes_10 ?_
  refine g_dup2_11 G dX6_becomes_11 rfl rfl ?_
  obtain ⟨b1, hf⟩ := ck_open hf
  refine m_iald X hM (mIs.of mf_53) b1 dX6_becomes_12 ?_
  refine g_iload_n G dX6_becomes_13 rfl (lv_at hl 2 rfl) ?_
  refine g_ior G dX6_becomes_14 ?_
  obtain ⟨b2, hf⟩ := ck_open hf
  obtain ⟨z1, hz1, hf⟩ := nm_open hf
  refine m_iast X hM (mIs.of mf_53) b2 hz1 dX6_becomes_15 (fun H locs hM => ?_)
  exact m_vret X hM hf dX6_becomes_16
theorem mc_isOf : mcV yX6_isOf cX6_isOf 3 (some .int) 2 430 := ⟨lw_V q2227 q2229 qs112 q157 q2230, ⟨rfl, by decide +kernel, by decide +kernel, by decide +kernel⟩, Nat.le_of_ble_eq_true rfl⟩
noncomputable def m_isOf (a1 : Int32) (a2 : Int32) (z : MS) : Option (Int32 × MS) :=
  bnd (m_rightOf a1 z) fun r1 z1 =>
  if ((r1 >>> (a2 &&& 31)) &&& 1) = 1 then
    some (1, z1)
  else
    bnd (m_wrongOf a1 z1) fun r2 z2 =>
    if ((r2 >>> (a2 &&& 31)) &&& 1) = 1 then
      some (2, z2)
    else
      some (0, z2)
set_option maxHeartbeats 1000000 in
theorem c_isOf {l : Launch} {D : MD} {o : Nat} {ad : Nat → Nat} {a1 : Int32} {a2 : Int32} {z z' : MS} {r : Int32} (hf : m_isOf a1 a2 z = some (r, z')) : MMet l D o ad yX6_isOf cX6_isOf 3 (some .int) 2 [.ref o, .int a1, .int a2] z z' (some (.int r)) := by
  unfold m_isOf at hf
  refine m_head pnX6 rfl (Nat.le_of_ble_eq_true rfl) (fun m Z H0 ls X hM hl => ?_)
  have G := X.g
  have hl : lv_has ls 3 [(0, .ref o), (1, .int a1), (2, .int a2)] := hl
  refine g_aload_n G dX6_isOf_0 rfl (lv_at hl 0 rfl) ?_
  refine g_iload_n G dX6_isOf_1 rfl (lv_at hl 1 rfl) ?_
  obtain ⟨r1, z1, h1, hf⟩ := bnd_open hf
  refine m_callVi (As := [.int a1]) (rest := []) X hM hl mc_rightOf (c_rightOf h1) rfl (Nat.le_of_ble_eq_true rfl) (Nat.le_of_ble_eq_true rfl) rfl dX6_isOf_2 (fun H locs hM => ?_)
  refine g_iload_n G dX6_isOf_5 rfl (lv_at hl 2 rfl) ?_
  refine g_ishr G dX6_isOf_6 ?_
  refine g_iconst (v := 1) G dX6_isOf_7 rfl ?_
  refine g_iand G dX6_isOf_8 ?_
  refine g_iconst (v := 1) G dX6_isOf_9 rfl ?_
  refine g_icmp_ne (tgt := 17) G dX6_isOf_10 rfl (fun c1 => ?_) (fun c1 => ?_)
  · have hf := it_neg c1 hf
    refine g_aload_n G dX6_isOf_17 rfl (lv_at hl 0 rfl) ?_
    refine g_iload_n G dX6_isOf_18 rfl (lv_at hl 1 rfl) ?_
    obtain ⟨r2, z2, h2, hf⟩ := bnd_open hf
    refine m_callVi (As := [.int a1]) (rest := []) X hM hl mc_wrongOf (c_wrongOf h2) rfl (Nat.le_of_ble_eq_true rfl) (Nat.le_of_ble_eq_true rfl) rfl dX6_isOf_19 (fun H locs hM => ?_)
    refine g_iload_n G dX6_isOf_22 rfl (lv_at hl 2 rfl) ?_
    refine g_ishr G dX6_isOf_23 ?_
    refine g_iconst (v := 1) G dX6_isOf_24 rfl ?_
    refine g_iand G dX6_isOf_25 ?_
    refine g_iconst (v := 1) G dX6_isOf_26 rfl ?_
    refine g_icmp_ne (tgt := 34) G dX6_isOf_27 rfl (fun c2 => ?_) (fun c2 => ?_)
    · have hf := it_neg c2 hf
      refine g_iconst (v := 0) G dX6_isOf_34 rfl ?_
      exact m_iret X hM hf dX6_isOf_35
    · have hf := it_pos c2 hf
      refine g_iconst (v := 2) G dX6_isOf_30 rfl ?_
      refine g_goto (tgt := 35) G dX6_isOf_31 rfl ?_
      exact m_iret X hM hf dX6_isOf_35
  · have hf := it_pos c1 hf
    refine g_iconst (v := 1) G dX6_isOf_13 rfl ?_
    refine g_goto (tgt := 35) G dX6_isOf_14 rfl ?_
    exact m_iret X hM hf dX6_isOf_35
theorem mc_makes : mcV yX6_makes cX6_makes 5 (none) 3 439 := ⟨lw_V q2285 q2287 qs122 q157 q2288, ⟨rfl, by decide +kernel, by decide +kernel, by decide +kernel⟩, Nat.le_of_ble_eq_true rfl⟩
noncomputable def m_makes (a1 : Int32) (a2 : Int32) (a3 : Int32) (z : MS) : Option (MS) :=
  ck (inb ((1 + (5 * a1)) + 1) (mN 53)) <|
  ck (inb ((1 + (5 * a1)) + 1) (mN 53)) <|
  nm (wA z 53 (Int32.toNatClampNeg ((1 + (5 * a1)) + 1)) ((mA z 53 (Int32.toNatClampNeg ((1 + (5 * a1)) + 1))) &&& ((1 <<< (a2 &&& 31)) ^^^ (-1)))) fun z1 =>
  ck (inb (((1 + (5 * a1)) + 1) + 1) (mN 53)) <|
  ck (inb (((1 + (5 * a1)) + 1) + 1) (mN 53)) <|
  nm (wA z1 53 (Int32.toNatClampNeg (((1 + (5 * a1)) + 1) + 1)) ((mA z1 53 (Int32.toNatClampNeg (((1 + (5 * a1)) + 1) + 1))) &&& ((1 <<< (a2 &&& 31)) ^^^ (-1)))) fun z2 =>
  jn (fun (z3 : MS) =>
    if a3 = 2 then
      ck (inb (((1 + (5 * a1)) + 1) + 1) (mN 53)) <|
      ck (inb (((1 + (5 * a1)) + 1) + 1) (mN 53)) <|
      nm (wA z3 53 (Int32.toNatClampNeg (((1 + (5 * a1)) + 1) + 1)) ((mA z3 53 (Int32.toNatClampNeg (((1 + (5 * a1)) + 1) + 1))) ||| (1 <<< (a2 &&& 31)))) fun z4 =>
      some z4
    else
      some z3) fun j59 =>
  if a3 = 1 then
    ck (inb ((1 + (5 * a1)) + 1) (mN 53)) <|
    ck (inb ((1 + (5 * a1)) + 1) (mN 53)) <|
    nm (wA z2 53 (Int32.toNatClampNeg ((1 + (5 * a1)) + 1)) ((mA z2 53 (Int32.toNatClampNeg ((1 + (5 * a1)) + 1))) ||| (1 <<< (a2 &&& 31)))) fun z5 =>
    j59 z5
  else
    j59 z2
set_option maxHeartbeats 1000000 in
theorem c_makes {l : Launch} {D : MD} {o : Nat} {ad : Nat → Nat} {a1 : Int32} {a2 : Int32} {a3 : Int32} {z z' : MS} (hf : m_makes a1 a2 a3 z = some z') : MMet l D o ad yX6_makes cX6_makes 5 (none) 1 [.ref o, .int a1, .int a2, .int a3] z z' (none) := by
  unfold m_makes at hf
  refine m_head pnX6 rfl (Nat.le_of_ble_eq_true rfl) (fun m Z H0 ls X hM hl => ?_)
  have G := X.g
  have hl : lv_has ls 5 [(0, .ref o), (1, .int a1), (2, .int a2), (3, .int a3)] := hl
  refine g_iconst (v := 1) G dX6_makes_0 rfl ?_
  refine g_iconst (v := 5) G dX6_makes_1 rfl ?_
  refine g_iload_n G dX6_makes_2 rfl (lv_at hl 1 rfl) ?_
  refine g_imul G dX6_makes_3 ?_
  refine g_iadd G dX6_makes_4 ?_
  refine g_iconst (v := 1) G dX6_makes_5 rfl ?_
  refine g_iadd G dX6_makes_6 ?_
  refine g_istore (lv' := [(4, .int ((1 + (5 * a1)) + 1)), (0, .ref o), (1, .int a1), (2, .int a2), (3, .int a3)]) G dX6_makes_7 hl (Nat.le_of_ble_eq_true rfl) rfl (fun ls hl => ?_)
  refine g_aload_n G dX6_makes_9 rfl (lv_at hl 1 rfl) ?_
  refine mg_a X hM mf_53 dX6_makes_10 ?_
  refine g_iload G dX6_makes_13 (lv_at hl 0 rfl) ?_
  refine g_dup2_11 G dX6_makes_15 rfl rfl ?_
  obtain ⟨b1, hf⟩ := ck_open hf
  refine m_iald X hM (mIs.of mf_53) b1 dX6_makes_16 ?_
  refine g_iconst (v := 1) G dX6_makes_17 rfl ?_
  refine g_iload_n G dX6_makes_18 rfl (lv_at hl 3 rfl) ?_
  refine g_ishl G dX6_makes_19 ?_
  refine g_iconst (v := (-1)) G dX6_makes_20 rfl ?_
  refine g_ixor G dX6_makes_21 ?_
  refine g_iand G dX6_makes_22 ?_
  obtain ⟨b2, hf⟩ := ck_open hf
  obtain ⟨z1, hz1, hf⟩ := nm_open hf
  refine m_iast X hM (mIs.of mf_53) b2 hz1 dX6_makes_23 (fun H locs hM => ?_)
  refine g_aload_n G dX6_makes_24 rfl (lv_at hl 1 rfl) ?_
  refine mg_a X hM mf_53 dX6_makes_25 ?_
  refine g_iload G dX6_makes_28 (lv_at hl 0 rfl) ?_
  refine g_iconst (v := 1) G dX6_makes_30 rfl ?_
  refine g_iadd G dX6_makes_31 ?_
  refine g_dup2_11 G dX6_makes_32 rfl rfl ?_
  obtain ⟨b3, hf⟩ := ck_open hf
  refine m_iald X hM (mIs.of mf_53) b3 dX6_makes_33 ?_
  refine g_iconst (v := 1) G dX6_makes_34 rfl ?_
  refine g_iload_n G dX6_makes_35 rfl (lv_at hl 3 rfl) ?_
  refine g_ishl G dX6_makes_36 ?_
  refine g_iconst (v := (-1)) G dX6_makes_37 rfl ?_
  refine g_ixor G dX6_makes_38 ?_
  refine g_iand G dX6_makes_39 ?_
  obtain ⟨b4, hf⟩ := ck_open hf
  obtain ⟨z2, hz2, hf⟩ := nm_open hf
  refine m_iast X hM (mIs.of mf_53) b4 hz2 dX6_makes_40 (fun H locs hM => ?_)
  refine g_iload_n G dX6_makes_41 rfl (lv_at hl 4 rfl) ?_
  refine g_iconst (v := 1) G dX6_makes_42 rfl ?_
  obtain ⟨j59, hj59, hf⟩ := jn_open hf
  have J59 : ∀ (z3 : MS) (H : Heap) (locs : List Loc), j59 z3 = some z' → MI D o ad H0 z3 H locs → ∀ ls : Array Slot, lv_has ls 5 [(0, .ref o), (2, .int a2), (3, .int a3), (4, .int ((1 + (5 * a1)) + 1))] → Z H locs 0 0 (F0 m 59 ls []) := by
    intro z3 H locs hf hM ls hl
    rw [hj59] at hf
    refine g_iload_n G dX6_makes_59 rfl (lv_at hl 2 rfl) ?_
    refine g_iconst (v := 2) G dX6_makes_60 rfl ?_
    refine g_icmp_ne (tgt := 79) G dX6_makes_61 rfl (fun c1 => ?_) (fun c1 => ?_)
    · have hf := it_neg c1 hf
      exact m_vret X hM hf dX6_makes_79
    · have hf := it_pos c1 hf
      refine g_aload_n G dX6_makes_64 rfl (lv_at hl 0 rfl) ?_
      refine mg_a X hM mf_53 dX6_makes_65 ?_
      refine g_iload G dX6_makes_68 (lv_at hl 3 rfl) ?_
      refine g_iconst (v := 1) G dX6_makes_70 rfl ?_
      refine g_iadd G dX6_makes_71 ?_
      refine g_dup2_11 G dX6_makes_72 rfl rfl ?_
      obtain ⟨b5, hf⟩ := ck_open hf
      refine m_iald X hM (mIs.of mf_53) b5 dX6_makes_73 ?_
      refine g_iconst (v := 1) G dX6_makes_74 rfl ?_
      refine g_iload_n G dX6_makes_75 rfl (lv_at hl 1 rfl) ?_
      refine g_ishl G dX6_makes_76 ?_
      refine g_ior G dX6_makes_77 ?_
      obtain ⟨b6, hf⟩ := ck_open hf
      obtain ⟨z4, hz4, hf⟩ := nm_open hf
      refine m_iast X hM (mIs.of mf_53) b6 hz4 dX6_makes_78 (fun H locs hM => ?_)
      exact m_vret X hM hf dX6_makes_79
  refine g_icmp_ne (tgt := 59) G dX6_makes_43 rfl (fun c2 => ?_) (fun c2 => ?_)
  · have hf := it_neg c2 hf
    exact J59 _ _ _ hf hM ls (lv_sub hl [1, 3, 4, 0] rfl)
  · have hf := it_pos c2 hf
    refine g_aload_n G dX6_makes_46 rfl (lv_at hl 1 rfl) ?_
    refine mg_a X hM mf_53 dX6_makes_47 ?_
    refine g_iload G dX6_makes_50 (lv_at hl 0 rfl) ?_
    refine g_dup2_11 G dX6_makes_52 rfl rfl ?_
    obtain ⟨b7, hf⟩ := ck_open hf
    refine m_iald X hM (mIs.of mf_53) b7 dX6_makes_53 ?_
    refine g_iconst (v := 1) G dX6_makes_54 rfl ?_
    refine g_iload_n G dX6_makes_55 rfl (lv_at hl 3 rfl) ?_
    refine g_ishl G dX6_makes_56 ?_
    refine g_ior G dX6_makes_57 ?_
    obtain ⟨b8, hf⟩ := ck_open hf
    obtain ⟨z5, hz5, hf⟩ := nm_open hf
    refine m_iast X hM (mIs.of mf_53) b8 hz5 dX6_makes_58 (fun H locs hM => ?_)
    exact J59 _ _ _ hf hM ls (lv_sub hl [1, 3, 4, 0] rfl)
theorem mc_pupilsOf : mcV yX6_pupilsOf cX6_pupilsOf 4 (some .int) 1 507 := ⟨lw_V q2194 q2196 qs106 q157 q2197, ⟨rfl, by decide +kernel, by decide +kernel, by decide +kernel⟩, Nat.le_of_ble_eq_true rfl⟩
noncomputable def m_pupilsOf_L4 (a1 : Int32) (s4 : Int32 → Int32 → MS → Option (Int32 × MS)) (x1 : Int32) (x2 : Int32) (z1 : MS) : Option (Int32 × MS) :=
  bnd (m_personMany z1) fun r1 z2 =>
  if r1 ≤ x2 then
    some (x1, z2)
  else
    bnd (m_masterOf x2 z2) fun r2 z3 =>
    jn (fun (x3 : Int32) (z4 : MS) =>
      s4 x3 (x2 + 1) z4) fun j27 =>
    if r2 = a1 then
      j27 (x1 ||| (1 <<< (x2 &&& 31))) z3
    else
      j27 x1 z3
noncomputable def m_pupilsOf (a1 : Int32) (z : MS) : Option (Int32 × MS) :=
  fx (m_pupilsOf_L4 a1) (fun _ _ _ => none) FU 0 0 z
set_option maxHeartbeats 1000000 in
theorem c_pupilsOf {l : Launch} {D : MD} {o : Nat} {ad : Nat → Nat} {a1 : Int32} {z z' : MS} {r : Int32} (hf : m_pupilsOf a1 z = some (r, z')) : MMet l D o ad yX6_pupilsOf cX6_pupilsOf 4 (some .int) 2 [.ref o, .int a1] z z' (some (.int r)) := by
  unfold m_pupilsOf at hf
  refine m_head pnX6 rfl (Nat.le_of_ble_eq_true rfl) (fun m Z H0 ls X hM hl => ?_)
  have G := X.g
  have hl : lv_has ls 4 [(0, .ref o), (1, .int a1)] := hl
  refine g_iconst (v := 0) G dX6_pupilsOf_0 rfl ?_
  refine g_istore_n (lv' := [(2, .int 0), (0, .ref o), (1, .int a1)]) G dX6_pupilsOf_1 rfl hl (Nat.le_of_ble_eq_true rfl) rfl (fun ls hl => ?_)
  refine g_iconst (v := 0) G dX6_pupilsOf_2 rfl ?_
  refine g_istore_n (lv' := [(3, .int 0), (2, .int 0), (0, .ref o), (1, .int a1)]) G dX6_pupilsOf_3 rfl hl (Nat.le_of_ble_eq_true rfl) rfl (fun ls hl => ?_)
  have L4 : ∀ (n : Nat) (x1 : Int32) (x2 : Int32) (z1 : MS) (H : Heap) (locs : List Loc), fx (m_pupilsOf_L4 a1) (fun _ _ _ => none) n x1 x2 z1 = some (r, z') → MI D o ad H0 z1 H locs → ∀ ls : Array Slot, lv_has ls 4 [(0, .ref o), (1, .int a1), (2, .int x1), (3, .int x2)] → Z H locs 0 0 (F0 m 4 ls []) := by
    intro n
    induction n with
    | zero => intro x1 x2 z1 H locs hf; exact absurd hf (by intro q; cases q)
    | succ n ih4 =>
      intro x1 x2 z1 H locs hf hM ls hl
      rw [fx_s] at hf
      generalize fx (m_pupilsOf_L4 a1) (fun _ _ _ => none) n = s4 at hf ih4
      unfold m_pupilsOf_L4 at hf
      refine g_iload_n G dX6_pupilsOf_4 rfl (lv_at hl 3 rfl) ?_
      refine g_aload_n G dX6_pupilsOf_5 rfl (lv_at hl 0 rfl) ?_
      obtain ⟨r1, z2, h1, hf⟩ := bnd_open hf
      refine m_callVi (As := []) (rest := [.int x2]) X hM hl mc_personMany (c_personMany h1) rfl (Nat.le_of_ble_eq_true rfl) (Nat.le_of_ble_eq_true rfl) rfl dX6_pupilsOf_6 (fun H locs hM => ?_)
      refine g_icmp_ge (tgt := 33) G dX6_pupilsOf_9 rfl (fun c1 => ?_) (fun c1 => ?_)
      · have hf := it_pos c1 hf
        refine g_iload_n G dX6_pupilsOf_33 rfl (lv_at hl 2 rfl) ?_
        exact m_iret X hM hf dX6_pupilsOf_34
      · have hf := it_neg c1 hf
        refine g_aload_n G dX6_pupilsOf_12 rfl (lv_at hl 0 rfl) ?_
        refine g_iload_n G dX6_pupilsOf_13 rfl (lv_at hl 3 rfl) ?_
        obtain ⟨r2, z3, h2, hf⟩ := bnd_open hf
        refine m_callVi (As := [.int x2]) (rest := []) X hM hl mc_masterOf (c_masterOf h2) rfl (Nat.le_of_ble_eq_true rfl) (Nat.le_of_ble_eq_true rfl) rfl dX6_pupilsOf_14 (fun H locs hM => ?_)
        refine g_iload_n G dX6_pupilsOf_17 rfl (lv_at hl 1 rfl) ?_
        obtain ⟨j27, hj27, hf⟩ := jn_open hf
        have J27 : ∀ (x3 : Int32) (z4 : MS) (H : Heap) (locs : List Loc), j27 x3 z4 = some (r, z') → MI D o ad H0 z4 H locs → ∀ ls : Array Slot, lv_has ls 4 [(0, .ref o), (1, .int a1), (2, .int x3), (3, .int x2)] → Z H locs 0 0 (F0 m 27 ls []) := by
          intro x3 z4 H locs hf hM ls hl
          rw [hj27] at hf
          refine g_iinc (v := x2 + 1) (lv' := [(3, .int (x2 + 1)), (0, .ref o), (1, .int a1), (2, .int x3)]) G dX6_pupilsOf_27 hl (k := 3) rfl rfl (Nat.le_of_ble_eq_true rfl) rfl (fun ls hl => ?_)
          refine g_goto (tgt := 4) G dX6_pupilsOf_30 rfl ?_
          exact ih4 _ _ _ _ _ hf hM ls (lv_sub hl [1, 2, 3, 0] rfl)
        refine g_icmp_ne (tgt := 27) G dX6_pupilsOf_18 rfl (fun c2 => ?_) (fun c2 => ?_)
        · have hf := it_neg c2 hf
          exact J27 _ _ _ _ hf hM ls (lv_sub hl [0, 1, 2, 3] rfl)
        · have hf := it_pos c2 hf
          refine g_iload_n G dX6_pupilsOf_21 rfl (lv_at hl 2 rfl) ?_
          refine g_iconst (v := 1) G dX6_pupilsOf_22 rfl ?_
          refine g_iload_n G dX6_pupilsOf_23 rfl (lv_at hl 3 rfl) ?_
          refine g_ishl G dX6_pupilsOf_24 ?_
          refine g_ior G dX6_pupilsOf_25 ?_
          refine g_istore_n (lv' := [(2, .int (x1 ||| (1 <<< (x2 &&& 31)))), (0, .ref o), (1, .int a1), (3, .int x2)]) G dX6_pupilsOf_26 rfl hl (Nat.le_of_ble_eq_true rfl) rfl (fun ls hl => ?_)
          exact J27 _ _ _ _ hf hM ls (lv_sub hl [1, 2, 0, 3] rfl)
  exact L4 FU _ _ _ _ _ hf hM ls (lv_sub hl [2, 3, 1, 0] rfl)
theorem mc_bits : mcS yX6_bits cX6_bits 3 (some .int) 1 483 := ⟨lw_S q2142 q2143 q157 q2144, ⟨by decide +kernel, by decide +kernel, by decide +kernel⟩, Nat.le_of_ble_eq_true rfl⟩
noncomputable def m_bits_L4 (s4 : Int32 → Int32 → MS → Option (Int32 × MS)) (x1 : Int32) (x2 : Int32) (z1 : MS) : Option (Int32 × MS) :=
  if x2 = 0 then
    some (x1, z1)
  else
    s4 (x1 + 1) (x2 &&& (x2 - 1)) z1
noncomputable def m_bits (a1 : Int32) (z : MS) : Option (Int32 × MS) :=
  fx m_bits_L4 (fun _ _ _ => none) FU 0 a1 z
set_option maxHeartbeats 1000000 in
theorem c_bits {l : Launch} {D : MD} {o : Nat} {ad : Nat → Nat} {a1 : Int32} {z z' : MS} {r : Int32} (hf : m_bits a1 z = some (r, z')) : MMet l D o ad yX6_bits cX6_bits 3 (some .int) 1 [.int a1] z z' (some (.int r)) := by
  unfold m_bits at hf
  refine m_head pnX6 rfl (Nat.le_of_ble_eq_true rfl) (fun m Z H0 ls X hM hl => ?_)
  have G := X.g
  have hl : lv_has ls 3 [(0, .int a1)] := hl
  refine g_iconst (v := 0) G dX6_bits_0 rfl ?_
  refine g_istore_n (lv' := [(1, .int 0), (0, .int a1)]) G dX6_bits_1 rfl hl (Nat.le_of_ble_eq_true rfl) rfl (fun ls hl => ?_)
  refine g_iload_n G dX6_bits_2 rfl (lv_at hl 1 rfl) ?_
  refine g_istore_n (lv' := [(2, .int a1), (1, .int 0), (0, .int a1)]) G dX6_bits_3 rfl hl (Nat.le_of_ble_eq_true rfl) rfl (fun ls hl => ?_)
  have L4 : ∀ (n : Nat) (x1 : Int32) (x2 : Int32) (z1 : MS) (H : Heap) (locs : List Loc), fx m_bits_L4 (fun _ _ _ => none) n x1 x2 z1 = some (r, z') → MI D o ad H0 z1 H locs → ∀ ls : Array Slot, lv_has ls 3 [(1, .int x1), (2, .int x2)] → Z H locs 0 0 (F0 m 4 ls []) := by
    intro n
    induction n with
    | zero => intro x1 x2 z1 H locs hf; exact absurd hf (by intro q; cases q)
    | succ n ih4 =>
      intro x1 x2 z1 H locs hf hM ls hl
      rw [fx_s] at hf
      generalize fx m_bits_L4 (fun _ _ _ => none) n = s4 at hf ih4
      unfold m_bits_L4 at hf
      refine g_iload_n G dX6_bits_4 rfl (lv_at hl 1 rfl) ?_
      refine g_if_eq (tgt := 20) G dX6_bits_5 rfl (fun c1 => ?_) (fun c1 => ?_)
      · have hf := it_pos c1 hf
        refine g_iload_n G dX6_bits_20 rfl (lv_at hl 0 rfl) ?_
        exact m_iret X hM hf dX6_bits_21
      · have hf := it_neg c1 hf
        refine g_iinc (v := x1 + 1) (lv' := [(1, .int (x1 + 1)), (2, .int x2)]) G dX6_bits_8 hl (k := 0) rfl rfl (Nat.le_of_ble_eq_true rfl) rfl (fun ls hl => ?_)
        refine g_iload_n G dX6_bits_11 rfl (lv_at hl 1 rfl) ?_
        refine g_iload_n G dX6_bits_12 rfl (lv_at hl 1 rfl) ?_
        refine g_iconst (v := 1) G dX6_bits_13 rfl ?_
        refine g_isub G dX6_bits_14 ?_
        refine g_iand G dX6_bits_15 ?_
        refine g_istore_n (lv' := [(2, .int (x2 &&& (x2 - 1))), (1, .int (x1 + 1))]) G dX6_bits_16 rfl hl (Nat.le_of_ble_eq_true rfl) rfl (fun ls hl => ?_)
        refine g_goto (tgt := 4) G dX6_bits_17 rfl ?_
        exact ih4 _ _ _ _ _ hf hM ls (lv_sub hl [1, 0] rfl)
  exact L4 FU _ _ _ _ _ hf hM ls (lv_sub hl [1, 0] rfl)
theorem mc_rightMany : mcV yX6_rightMany cX6_rightMany 4 (some .int) 1 498 := ⟨lw_V q2174 q2176 qs102 q157 q2177, ⟨rfl, by decide +kernel, by decide +kernel, by decide +kernel⟩, Nat.le_of_ble_eq_true rfl⟩
noncomputable def m_rightMany_L4 (a1 : Int32) (s4 : Int32 → Int32 → MS → Option (Int32 × MS)) (x1 : Int32) (x2 : Int32) (z1 : MS) : Option (Int32 × MS) :=
  bnd (m_personMany z1) fun r1 z2 =>
  if r1 ≤ x2 then
    some (x1, z2)
  else
    bnd (m_rightOf x2 z2) fun r2 z3 =>
    s4 (x1 + ((r2 >>> (a1 &&& 31)) &&& 1)) (x2 + 1) z3
noncomputable def m_rightMany (a1 : Int32) (z : MS) : Option (Int32 × MS) :=
  fx (m_rightMany_L4 a1) (fun _ _ _ => none) FU 0 0 z
set_option maxHeartbeats 1000000 in
theorem c_rightMany {l : Launch} {D : MD} {o : Nat} {ad : Nat → Nat} {a1 : Int32} {z z' : MS} {r : Int32} (hf : m_rightMany a1 z = some (r, z')) : MMet l D o ad yX6_rightMany cX6_rightMany 4 (some .int) 2 [.ref o, .int a1] z z' (some (.int r)) := by
  unfold m_rightMany at hf
  refine m_head pnX6 rfl (Nat.le_of_ble_eq_true rfl) (fun m Z H0 ls X hM hl => ?_)
  have G := X.g
  have hl : lv_has ls 4 [(0, .ref o), (1, .int a1)] := hl
  refine g_iconst (v := 0) G dX6_rightMany_0 rfl ?_
  refine g_istore_n (lv' := [(2, .int 0), (0, .ref o), (1, .int a1)]) G dX6_rightMany_1 rfl hl (Nat.le_of_ble_eq_true rfl) rfl (fun ls hl => ?_)
  refine g_iconst (v := 0) G dX6_rightMany_2 rfl ?_
  refine g_istore_n (lv' := [(3, .int 0), (2, .int 0), (0, .ref o), (1, .int a1)]) G dX6_rightMany_3 rfl hl (Nat.le_of_ble_eq_true rfl) rfl (fun ls hl => ?_)
  have L4 : ∀ (n : Nat) (x1 : Int32) (x2 : Int32) (z1 : MS) (H : Heap) (locs : List Loc), fx (m_rightMany_L4 a1) (fun _ _ _ => none) n x1 x2 z1 = some (r, z') → MI D o ad H0 z1 H locs → ∀ ls : Array Slot, lv_has ls 4 [(0, .ref o), (1, .int a1), (2, .int x1), (3, .int x2)] → Z H locs 0 0 (F0 m 4 ls []) := by
    intro n
    induction n with
    | zero => intro x1 x2 z1 H locs hf; exact absurd hf (by intro q; cases q)
    | succ n ih4 =>
      intro x1 x2 z1 H locs hf hM ls hl
      rw [fx_s] at hf
      generalize fx (m_rightMany_L4 a1) (fun _ _ _ => none) n = s4 at hf ih4
      unfold m_rightMany_L4 at hf
      refine g_iload_n G dX6_rightMany_4 rfl (lv_at hl 3 rfl) ?_
      refine g_aload_n G dX6_rightMany_5 rfl (lv_at hl 0 rfl) ?_
      obtain ⟨r1, z2, h1, hf⟩ := bnd_open hf
      refine m_callVi (As := []) (rest := [.int x2]) X hM hl mc_personMany (c_personMany h1) rfl (Nat.le_of_ble_eq_true rfl) (Nat.le_of_ble_eq_true rfl) rfl dX6_rightMany_6 (fun H locs hM => ?_)
      refine g_icmp_ge (tgt := 30) G dX6_rightMany_9 rfl (fun c1 => ?_) (fun c1 => ?_)
      · have hf := it_pos c1 hf
        refine g_iload_n G dX6_rightMany_30 rfl (lv_at hl 2 rfl) ?_
        exact m_iret X hM hf dX6_rightMany_31
      · have hf := it_neg c1 hf
        refine g_iload_n G dX6_rightMany_12 rfl (lv_at hl 2 rfl) ?_
        refine g_aload_n G dX6_rightMany_13 rfl (lv_at hl 0 rfl) ?_
        refine g_iload_n G dX6_rightMany_14 rfl (lv_at hl 3 rfl) ?_
        obtain ⟨r2, z3, h2, hf⟩ := bnd_open hf
        refine m_callVi (As := [.int x2]) (rest := [.int x1]) X hM hl mc_rightOf (c_rightOf h2) rfl (Nat.le_of_ble_eq_true rfl) (Nat.le_of_ble_eq_true rfl) rfl dX6_rightMany_15 (fun H locs hM => ?_)
        refine g_iload_n G dX6_rightMany_18 rfl (lv_at hl 1 rfl) ?_
        refine g_ishr G dX6_rightMany_19 ?_
        refine g_iconst (v := 1) G dX6_rightMany_20 rfl ?_
        refine g_iand G dX6_rightMany_21 ?_
        refine g_iadd G dX6_rightMany_22 ?_
        refine g_istore_n (lv' := [(2, .int (x1 + ((r2 >>> (a1 &&& 31)) &&& 1))), (0, .ref o), (1, .int a1), (3, .int x2)]) G dX6_rightMany_23 rfl hl (Nat.le_of_ble_eq_true rfl) rfl (fun ls hl => ?_)
        refine g_iinc (v := x2 + 1) (lv' := [(3, .int (x2 + 1)), (2, .int (x1 + ((r2 >>> (a1 &&& 31)) &&& 1))), (0, .ref o), (1, .int a1)]) G dX6_rightMany_24 hl (k := 3) rfl rfl (Nat.le_of_ble_eq_true rfl) rfl (fun ls hl => ?_)
        refine g_goto (tgt := 4) G dX6_rightMany_27 rfl ?_
        exact ih4 _ _ _ _ _ hf hM ls (lv_sub hl [2, 3, 1, 0] rfl)
  exact L4 FU _ _ _ _ _ hf hM ls (lv_sub hl [2, 3, 1, 0] rfl)
theorem mc_wrongMany : mcV yX6_wrongMany cX6_wrongMany 4 (some .int) 1 501 := ⟨lw_V q2178 q2180 qs103 q157 q2181, ⟨rfl, by decide +kernel, by decide +kernel, by decide +kernel⟩, Nat.le_of_ble_eq_true rfl⟩
noncomputable def m_wrongMany_L4 (a1 : Int32) (s4 : Int32 → Int32 → MS → Option (Int32 × MS)) (x1 : Int32) (x2 : Int32) (z1 : MS) : Option (Int32 × MS) :=
  bnd (m_personMany z1) fun r1 z2 =>
  if r1 ≤ x2 then
    some (x1, z2)
  else
    bnd (m_wrongOf x2 z2) fun r2 z3 =>
    s4 (x1 + ((r2 >>> (a1 &&& 31)) &&& 1)) (x2 + 1) z3
noncomputable def m_wrongMany (a1 : Int32) (z : MS) : Option (Int32 × MS) :=
  fx (m_wrongMany_L4 a1) (fun _ _ _ => none) FU 0 0 z
set_option maxHeartbeats 1000000 in
theorem c_wrongMany {l : Launch} {D : MD} {o : Nat} {ad : Nat → Nat} {a1 : Int32} {z z' : MS} {r : Int32} (hf : m_wrongMany a1 z = some (r, z')) : MMet l D o ad yX6_wrongMany cX6_wrongMany 4 (some .int) 2 [.ref o, .int a1] z z' (some (.int r)) := by
  unfold m_wrongMany at hf
  refine m_head pnX6 rfl (Nat.le_of_ble_eq_true rfl) (fun m Z H0 ls X hM hl => ?_)
  have G := X.g
  have hl : lv_has ls 4 [(0, .ref o), (1, .int a1)] := hl
  refine g_iconst (v := 0) G dX6_wrongMany_0 rfl ?_
  refine g_istore_n (lv' := [(2, .int 0), (0, .ref o), (1, .int a1)]) G dX6_wrongMany_1 rfl hl (Nat.le_of_ble_eq_true rfl) rfl (fun ls hl => ?_)
  refine g_iconst (v := 0) G dX6_wrongMany_2 rfl ?_
  refine g_istore_n (lv' := [(3, .int 0), (2, .int 0), (0, .ref o), (1, .int a1)]) G dX6_wrongMany_3 rfl hl (Nat.le_of_ble_eq_true rfl) rfl (fun ls hl => ?_)
  have L4 : ∀ (n : Nat) (x1 : Int32) (x2 : Int32) (z1 : MS) (H : Heap) (locs : List Loc), fx (m_wrongMany_L4 a1) (fun _ _ _ => none) n x1 x2 z1 = some (r, z') → MI D o ad H0 z1 H locs → ∀ ls : Array Slot, lv_has ls 4 [(0, .ref o), (1, .int a1), (2, .int x1), (3, .int x2)] → Z H locs 0 0 (F0 m 4 ls []) := by
    intro n
    induction n with
    | zero => intro x1 x2 z1 H locs hf; exact absurd hf (by intro q; cases q)
    | succ n ih4 =>
      intro x1 x2 z1 H locs hf hM ls hl
      rw [fx_s] at hf
      generalize fx (m_wrongMany_L4 a1) (fun _ _ _ => none) n = s4 at hf ih4
      unfold m_wrongMany_L4 at hf
      refine g_iload_n G dX6_wrongMany_4 rfl (lv_at hl 3 rfl) ?_
      refine g_aload_n G dX6_wrongMany_5 rfl (lv_at hl 0 rfl) ?_
      obtain ⟨r1, z2, h1, hf⟩ := bnd_open hf
      refine m_callVi (As := []) (rest := [.int x2]) X hM hl mc_personMany (c_personMany h1) rfl (Nat.le_of_ble_eq_true rfl) (Nat.le_of_ble_eq_true rfl) rfl dX6_wrongMany_6 (fun H locs hM => ?_)
      refine g_icmp_ge (tgt := 30) G dX6_wrongMany_9 rfl (fun c1 => ?_) (fun c1 => ?_)
      · have hf := it_pos c1 hf
        refine g_iload_n G dX6_wrongMany_30 rfl (lv_at hl 2 rfl) ?_
        exact m_iret X hM hf dX6_wrongMany_31
      · have hf := it_neg c1 hf
        refine g_iload_n G dX6_wrongMany_12 rfl (lv_at hl 2 rfl) ?_
        refine g_aload_n G dX6_wrongMany_13 rfl (lv_at hl 0 rfl) ?_
        refine g_iload_n G dX6_wrongMany_14 rfl (lv_at hl 3 rfl) ?_
        obtain ⟨r2, z3, h2, hf⟩ := bnd_open hf
        refine m_callVi (As := [.int x2]) (rest := [.int x1]) X hM hl mc_wrongOf (c_wrongOf h2) rfl (Nat.le_of_ble_eq_true rfl) (Nat.le_of_ble_eq_true rfl) rfl dX6_wrongMany_15 (fun H locs hM => ?_)
        refine g_iload_n G dX6_wrongMany_18 rfl (lv_at hl 1 rfl) ?_
        refine g_ishr G dX6_wrongMany_19 ?_
        refine g_iconst (v := 1) G dX6_wrongMany_20 rfl ?_
        refine g_iand G dX6_wrongMany_21 ?_
        refine g_iadd G dX6_wrongMany_22 ?_
        refine g_istore_n (lv' := [(2, .int (x1 + ((r2 >>> (a1 &&& 31)) &&& 1))), (0, .ref o), (1, .int a1), (3, .int x2)]) G dX6_wrongMany_23 rfl hl (Nat.le_of_ble_eq_true rfl) rfl (fun ls hl => ?_)
        refine g_iinc (v := x2 + 1) (lv' := [(3, .int (x2 + 1)), (2, .int (x1 + ((r2 >>> (a1 &&& 31)) &&& 1))), (0, .ref o), (1, .int a1)]) G dX6_wrongMany_24 hl (k := 3) rfl rfl (Nat.le_of_ble_eq_true rfl) rfl (fun ls hl => ?_)
        refine g_goto (tgt := 4) G dX6_wrongMany_27 rfl ?_
        exact ih4 _ _ _ _ _ hf hM ls (lv_sub hl [2, 3, 1, 0] rfl)
  exact L4 FU _ _ _ _ _ hf hM ls (lv_sub hl [2, 3, 1, 0] rfl)
theorem mc_marksOf : mcV yX6_marksOf cX6_marksOf 4 (some .int) 1 453 := ⟨lw_V q2214 q2216 qs110 q157 q2217, ⟨rfl, by decide +kernel, by decide +kernel, by decide +kernel⟩, Nat.le_of_ble_eq_true rfl⟩
noncomputable def m_marksOf_L4 (a1 : Int32) (s4 : Int32 → Int32 → MS → Option (Int32 × MS)) (x1 : Int32) (x2 : Int32) (z1 : MS) : Option (Int32 × MS) :=
  bnd (m_factMany z1) fun r1 z2 =>
  if r1 ≤ x2 then
    some (x1, z2)
  else
    ck (inb (8 + x2) (mN 41)) <|
    bnd (m_rightOf a1 z2) fun r2 z3 =>
    bnd (m_wrongOf a1 z3) fun r3 z4 =>
    s4 (x1 + ((mA z2 41 (Int32.toNatClampNeg (8 + x2))) * (((r2 >>> (x2 &&& 31)) &&& 1) - ((r3 >>> (x2 &&& 31)) &&& 1)))) (x2 + 1) z4
noncomputable def m_marksOf (a1 : Int32) (z : MS) : Option (Int32 × MS) :=
  fx (m_marksOf_L4 a1) (fun _ _ _ => none) FU 0 0 z
set_option maxHeartbeats 1000000 in
theorem c_marksOf {l : Launch} {D : MD} {o : Nat} {ad : Nat → Nat} {a1 : Int32} {z z' : MS} {r : Int32} (hf : m_marksOf a1 z = some (r, z')) : MMet l D o ad yX6_marksOf cX6_marksOf 4 (some .int) 2 [.ref o, .int a1] z z' (some (.int r)) := by
  unfold m_marksOf at hf
  refine m_head pnX6 rfl (Nat.le_of_ble_eq_true rfl) (fun m Z H0 ls X hM hl => ?_)
  have G := X.g
  have hl : lv_has ls 4 [(0, .ref o), (1, .int a1)] := hl
  refine g_iconst (v := 0) G dX6_marksOf_0 rfl ?_
  refine g_istore_n (lv' := [(2, .int 0), (0, .ref o), (1, .int a1)]) G dX6_marksOf_1 rfl hl (Nat.le_of_ble_eq_true rfl) rfl (fun ls hl => ?_)
  refine g_iconst (v := 0) G dX6_marksOf_2 rfl ?_
  refine g_istore_n (lv' := [(3, .int 0), (2, .int 0), (0, .ref o), (1, .int a1)]) G dX6_marksOf_3 rfl hl (Nat.le_of_ble_eq_true rfl) rfl (fun ls hl => ?_)
  have L4 : ∀ (n : Nat) (x1 : Int32) (x2 : Int32) (z1 : MS) (H : Heap) (locs : List Loc), fx (m_marksOf_L4 a1) (fun _ _ _ => none) n x1 x2 z1 = some (r, z') → MI D o ad H0 z1 H locs → ∀ ls : Array Slot, lv_has ls 4 [(0, .ref o), (1, .int a1), (2, .int x1), (3, .int x2)] → Z H locs 0 0 (F0 m 4 ls []) := by
    intro n
    induction n with
    | zero => intro x1 x2 z1 H locs hf; exact absurd hf (by intro q; cases q)
    | succ n ih4 =>
      intro x1 x2 z1 H locs hf hM ls hl
      rw [fx_s] at hf
      generalize fx (m_marksOf_L4 a1) (fun _ _ _ => none) n = s4 at hf ih4
      unfold m_marksOf_L4 at hf
      refine g_iload_n G dX6_marksOf_4 rfl (lv_at hl 3 rfl) ?_
      refine g_aload_n G dX6_marksOf_5 rfl (lv_at hl 0 rfl) ?_
      obtain ⟨r1, z2, h1, hf⟩ := bnd_open hf
      refine m_callVi (As := []) (rest := [.int x2]) X hM hl mc_factMany (c_factMany h1) rfl (Nat.le_of_ble_eq_true rfl) (Nat.le_of_ble_eq_true rfl) rfl dX6_marksOf_6 (fun H locs hM => ?_)
      refine g_icmp_ge (tgt := 50) G dX6_marksOf_9 rfl (fun c1 => ?_) (fun c1 => ?_)
      · have hf := it_pos c1 hf
        refine g_iload_n G dX6_marksOf_50 rfl (lv_at hl 2 rfl) ?_
        exact m_iret X hM hf dX6_marksOf_51
      · have hf := it_neg c1 hf
        refine g_iload_n G dX6_marksOf_12 rfl (lv_at hl 2 rfl) ?_
        refine g_aload_n G dX6_marksOf_13 rfl (lv_at hl 0 rfl) ?_
        refine mg_a X hM mf_41 dX6_marksOf_14 ?_
        refine g_bipush (v := 8) G dX6_marksOf_17 rfl ?_
        refine g_iload_n G dX6_marksOf_19 rfl (lv_at hl 3 rfl) ?_
        refine g_iadd G dX6_marksOf_20 ?_
        obtain ⟨b1, hf⟩ := ck_open hf
        refine m_iald X hM (mIs.of mf_41) b1 dX6_marksOf_21 ?_
        refine g_aload_n G dX6_marksOf_22 rfl (lv_at hl 0 rfl) ?_
        refine g_iload_n G dX6_marksOf_23 rfl (lv_at hl 1 rfl) ?_
        obtain ⟨r2, z3, h2, hf⟩ := bnd_open hf
        refine m_callVi (As := [.int a1]) (rest := [.int (mA z2 41 (Int32.toNatClampNeg (8 + x2))), .int x1]) X hM hl mc_rightOf (c_rightOf h2) rfl (Nat.le_of_ble_eq_true rfl) (Nat.le_of_ble_eq_true rfl) rfl dX6_marksOf_24 (fun H locs hM => ?_)
        refine g_iload_n G dX6_marksOf_27 rfl (lv_at hl 3 rfl) ?_
        refine g_ishr G dX6_marksOf_28 ?_
        refine g_iconst (v := 1) G dX6_marksOf_29 rfl ?_
        refine g_iand G dX6_marksOf_30 ?_
        refine g_aload_n G dX6_marksOf_31 rfl (lv_at hl 0 rfl) ?_
        refine g_iload_n G dX6_marksOf_32 rfl (lv_at hl 1 rfl) ?_
        obtain ⟨r3, z4, h3, hf⟩ := bnd_open hf
        refine m_callVi (As := [.int a1]) (rest := [.int ((r2 >>> (x2 &&& 31)) &&& 1), .int (mA z2 41 (Int32.toNatClampNeg (8 + x2))), .int x1]) X hM hl mc_wrongOf (c_wrongOf h3) rfl (Nat.le_of_ble_eq_true rfl) (Nat.le_of_ble_eq_true rfl) rfl dX6_marksOf_33 (fun H locs hM => ?_)
        refine g_iload_n G dX6_marksOf_36 rfl (lv_at hl 3 rfl) ?_
        refine g_ishr G dX6_marksOf_37 ?_
        refine g_iconst (v := 1) G dX6_marksOf_38 rfl ?_
        refine g_iand G dX6_marksOf_39 ?_
        refine g_isub G dX6_marksOf_40 ?_
        refine g_imul G dX6_marksOf_41 ?_
        refine g_iadd G dX6_marksOf_42 ?_
        refine g_istore_n (lv' := [(2, .int (x1 + ((mA z2 41 (Int32.toNatClampNeg (8 + x2))) * (((r2 >>> (x2 &&& 31)) &&& 1) - ((r3 >>> (x2 &&& 31)) &&& 1))))), (0, .ref o), (1, .int a1), (3, .int x2)]) G dX6_marksOf_43 rfl hl (Nat.le_of_ble_eq_true rfl) rfl (fun ls hl => ?_)
        refine g_iinc (v := x2 + 1) (lv' := [(3, .int (x2 + 1)), (2, .int (x1 + ((mA z2 41 (Int32.toNatClampNeg (8 + x2))) * (((r2 >>> (x2 &&& 31)) &&& 1) - ((r3 >>> (x2 &&& 31)) &&& 1))))), (0, .ref o), (1, .int a1)]) G dX6_marksOf_44 hl (k := 3) rfl rfl (Nat.le_of_ble_eq_true rfl) rfl (fun ls hl => ?_)
        refine g_goto (tgt := 4) G dX6_marksOf_47 rfl ?_
        exact ih4 _ _ _ _ _ hf hM ls (lv_sub hl [2, 3, 1, 0] rfl)
  exact L4 FU _ _ _ _ _ hf hM ls (lv_sub hl [2, 3, 1, 0] rfl)
theorem mc_qPuts : mcV yX6_qPuts cX6_qPuts 3 (none) 1 419 := ⟨lw_V q2235 q2237 qs114 q157 q2238, ⟨rfl, by decide +kernel, by decide +kernel, by decide +kernel⟩, Nat.le_of_ble_eq_true rfl⟩
noncomputable def m_qPuts (a1 : Int64) (z : MS) : Option (MS) :=
  ck (inb (mI z 100) (mN 99)) <|
  nm (wB z 99 (Int32.toNatClampNeg (mI z 100)) a1) fun z1 =>
  nm (wI z1 100 ((mI z1 100) + 1)) fun z2 =>
  some z2
set_option maxHeartbeats 1000000 in
theorem c_qPuts {l : Launch} {D : MD} {o : Nat} {ad : Nat → Nat} {a1 : Int64} {z z' : MS} (hf : m_qPuts a1 z = some z') : MMet l D o ad yX6_qPuts cX6_qPuts 3 (none) 1 [.ref o, .long a1] z z' (none) := by
  unfold m_qPuts at hf
  refine m_head pnX6 rfl (Nat.le_of_ble_eq_true rfl) (fun m Z H0 ls X hM hl => ?_)
  have G := X.g
  have hl : lv_has ls 3 [(0, .ref o), (1, .long a1)] := hl
  refine g_aload_n G dX6_qPuts_0 rfl (lv_at hl 0 rfl) ?_
  refine mg_a X hM mf_99 dX6_qPuts_1 ?_
  refine g_aload_n G dX6_qPuts_4 rfl (lv_at hl 0 rfl) ?_
  refine mg_i X hM mf_100 dX6_qPuts_5 ?_
  refine g_lload_n G dX6_qPuts_8 rfl (lv_at hl 1 rfl) ?_
  obtain ⟨b1, hf⟩ := ck_open hf
  obtain ⟨z1, hz1, hf⟩ := nm_open hf
  refine m_last X hM (mIs.of mf_99) b1 hz1 dX6_qPuts_9 (fun H locs hM => ?_)
  refine g_aload_n G dX6_qPuts_10 rfl (lv_at hl 0 rfl) ?_
  refine g_dup G dX6_qPuts_11 rfl ?_
  refine mg_i X hM mf_100 dX6_qPuts_12 ?_
  refine g_iconst (v := 1) G dX6_qPuts_15 rfl ?_
  refine g_iadd G dX6_qPuts_16 ?_
  obtain ⟨z2, hz2, hf⟩ := nm_open hf
  refine mp_i X hM mf_100 hz2 dX6_qPuts_17 (fun H locs hM => ?_)
  exact m_vret X hM hf dX6_qPuts_20
theorem mc_qClip : mcS yX6_qClip cX6_qClip 2 (some .long) 1 622 := ⟨lw_S q2247 q2248 q157 q2249, ⟨by decide +kernel, by decide +kernel, by decide +kernel⟩, Nat.le_of_ble_eq_true rfl⟩
noncomputable def m_qClip (a1 : Int64) (z : MS) : Option (Int64 × MS) :=
  if a1 ≤ 1000000 then
    if ((-1000000)) ≤ a1 then
      some (a1, z)
    else
      some (((-1000000)), z)
  else
    some (1000000, z)
set_option maxHeartbeats 1000000 in
theorem c_qClip {l : Launch} {D : MD} {o : Nat} {ad : Nat → Nat} {a1 : Int64} {z z' : MS} {r : Int64} (hf : m_qClip a1 z = some (r, z')) : MMet l D o ad yX6_qClip cX6_qClip 2 (some .long) 1 [.long a1] z z' (some (.long r)) := by
  unfold m_qClip at hf
  refine m_head pnX6 rfl (Nat.le_of_ble_eq_true rfl) (fun m Z H0 ls X hM hl => ?_)
  have G := X.g
  have hl : lv_has ls 2 [(0, .long a1)] := hl
  refine g_lload_n G dX6_qClip_0 rfl (lv_at hl 0 rfl) ?_
  refine g_ldc2 G q2250 dX6_qClip_1 ?_
  refine g_lc_le (tgt := 14) G dX6_qClip_4 dX6_qClip_5 rfl (fun c1 => ?_) (fun c1 => ?_)
  · have hf := it_pos c1 hf
    refine g_lload_n G dX6_qClip_14 rfl (lv_at hl 0 rfl) ?_
    refine g_ldc2 G q2251 dX6_qClip_15 ?_
    refine g_lc_ge (tgt := 28) G dX6_qClip_18 dX6_qClip_19 rfl (fun c2 => ?_) (fun c2 => ?_)
    · have hf := it_pos c2 hf
      refine g_lload_n G dX6_qClip_28 rfl (lv_at hl 0 rfl) ?_
      exact m_lret X hM hf dX6_qClip_29
    · have hf := it_neg c2 hf
      refine g_ldc2 G q2251 dX6_qClip_22 ?_
      refine g_goto (tgt := 29) G dX6_qClip_25 rfl ?_
      exact m_lret X hM hf dX6_qClip_29
  · have hf := it_neg c1 hf
    refine g_ldc2 G q2250 dX6_qClip_8 ?_
    refine g_goto (tgt := 29) G dX6_qClip_11 rfl ?_
    exact m_lret X hM hf dX6_qClip_29
theorem mc_qFloor : mcS yX6_qFloor cX6_qFloor 6 (some .long) 2 626 := ⟨lw_S q2252 q2253 q157 q2254, ⟨by decide +kernel, by decide +kernel, by decide +kernel⟩, Nat.le_of_ble_eq_true rfl⟩
noncomputable def m_qFloor (a1 : Int64) (a2 : Int64) (z : MS) : Option (Int64 × MS) :=
  if a2 = 0 then
    some (0, z)
  else
    ck (!decide (a2 = 0)) <|
    ck (!decide (a2 = 0)) <|
    jn (fun (z1 : MS) =>
      some ((a1 / a2), z1)) fun j53 =>
    if (a1 - a1 / a2 * a2) = 0 then
      j53 z
    else
      jn (fun (x1 : Bool) (z2 : MS) =>
        jn (fun (x2 : Bool) (z3 : MS) =>
          if (bI x1) = (bI x2) then
            j53 z3
          else
            some (((a1 / a2) - 1), z3)) fun j43 =>
        if 0 ≤ a2 then
          j43 false z2
        else
          j43 true z2) fun j32 =>
      if 0 ≤ a1 then
        j32 false z
      else
        j32 true z
set_option maxHeartbeats 1000000 in
theorem c_qFloor {l : Launch} {D : MD} {o : Nat} {ad : Nat → Nat} {a1 : Int64} {a2 : Int64} {z z' : MS} {r : Int64} (hf : m_qFloor a1 a2 z = some (r, z')) : MMet l D o ad yX6_qFloor cX6_qFloor 6 (some .long) 1 [.long a1, .long a2] z z' (some (.long r)) := by
  unfold m_qFloor at hf
  refine m_head pnX6 rfl (Nat.le_of_ble_eq_true rfl) (fun m Z H0 ls X hM hl => ?_)
  have G := X.g
  have hl : lv_has ls 6 [(0, .long a1), (2, .long a2)] := hl
  refine g_lload_n G dX6_qFloor_0 rfl (lv_at hl 1 rfl) ?_
  refine g_lconst (v := 0) G dX6_qFloor_1 rfl ?_
  refine g_lc_ne (tgt := 8) G dX6_qFloor_2 dX6_qFloor_3 rfl (fun c1 => ?_) (fun c1 => ?_)
  · have hf := it_neg c1 hf
    refine g_lload_n G dX6_qFloor_8 rfl (lv_at hl 0 rfl) ?_
    refine g_lload_n G dX6_qFloor_9 rfl (lv_at hl 1 rfl) ?_
    obtain ⟨b1, hf⟩ := ck_open hf
    refine g_ldiv G dX6_qFloor_10 (by simpa using b1) ?_
    refine g_lstore (lv' := [(4, .long (a1 / a2)), (0, .long a1), (2, .long a2)]) G dX6_qFloor_11 hl (Nat.le_of_ble_eq_true rfl) rfl (fun ls hl => ?_)
    refine g_lload_n G dX6_qFloor_13 rfl (lv_at hl 1 rfl) ?_
    refine g_lload_n G dX6_qFloor_14 rfl (lv_at hl 2 rfl) ?_
    obtain ⟨b2, hf⟩ := ck_open hf
    refine g_lrem G dX6_qFloor_15 (by simpa using b2) ?_
    refine g_lconst (v := 0) G dX6_qFloor_16 rfl ?_
    obtain ⟨j53, hj53, hf⟩ := jn_open hf
    have J53 : ∀ (z1 : MS) (H : Heap) (locs : List Loc), j53 z1 = some (r, z') → MI D o ad H0 z1 H locs → ∀ ls : Array Slot, lv_has ls 6 [(4, .long (a1 / a2))] → Z H locs 0 0 (F0 m 53 ls []) := by
      intro z1 H locs hf hM ls hl
      rw [hj53] at hf
      refine g_lload G dX6_qFloor_53 (lv_at hl 0 rfl) ?_
      exact m_lret X hM hf dX6_qFloor_55
    refine g_lc_eq (tgt := 53) G dX6_qFloor_17 dX6_qFloor_18 rfl (fun c2 => ?_) (fun c2 => ?_)
    · have hf := it_pos c2 hf
      exact J53 _ _ _ hf hM ls (lv_sub hl [0] rfl)
    · have hf := it_neg c2 hf
      refine g_lload_n G dX6_qFloor_21 rfl (lv_at hl 1 rfl) ?_
      refine g_lconst (v := 0) G dX6_qFloor_22 rfl ?_
      obtain ⟨j32, hj32, hf⟩ := jn_open hf
      have J32 : ∀ (x1 : Bool) (z2 : MS) (H : Heap) (locs : List Loc), j32 x1 z2 = some (r, z') → MI D o ad H0 z2 H locs → ∀ ls : Array Slot, lv_has ls 6 [(2, .long a2), (4, .long (a1 / a2))] → Z H locs 0 0 (F0 m 32 ls [.int (bI x1)]) := by
        intro x1 z2 H locs hf hM ls hl
        rw [hj32] at hf
        refine g_lload_n G dX6_qFloor_32 rfl (lv_at hl 0 rfl) ?_
        refine g_lconst (v := 0) G dX6_qFloor_33 rfl ?_
        obtain ⟨j43, hj43, hf⟩ := jn_open hf
        have J43 : ∀ (x2 : Bool) (z3 : MS) (H : Heap) (locs : List Loc), j43 x2 z3 = some (r, z') → MI D o ad H0 z3 H locs → ∀ ls : Array Slot, lv_has ls 6 [(4, .long (a1 / a2))] → Z H locs 0 0 (F0 m 43 ls [.int (bI x2), .int (bI x1)]) := by
          intro x2 z3 H locs hf hM ls hl
          rw [hj43] at hf
          refine g_icmp_eq (tgt := 53) G dX6_qFloor_43 rfl (fun c3 => ?_) (fun c3 => ?_)
          · have hf := it_pos c3 hf
            exact J53 _ _ _ hf hM ls (lv_sub hl [0] rfl)
          · have hf := it_neg c3 hf
            refine g_lload G dX6_qFloor_46 (lv_at hl 0 rfl) ?_
            refine g_lconst (v := 1) G dX6_qFloor_48 rfl ?_
            refine g_lsub G dX6_qFloor_49 ?_
            refine g_goto (tgt := 55) G dX6_qFloor_50 rfl ?_
            exact m_lret X hM hf dX6_qFloor_55
        refine g_lc_ge (tgt := 42) G dX6_qFloor_34 dX6_qFloor_35 rfl (fun c4 => ?_) (fun c4 => ?_)
        · have hf := it_pos c4 hf
          refine g_iconst (v := 0) G dX6_qFloor_42 rfl ?_
          exact J43 _ _ _ _ hf hM ls (lv_sub hl [1] rfl)
        · have hf := it_neg c4 hf
          refine g_iconst (v := 1) G dX6_qFloor_38 rfl ?_
          refine g_goto (tgt := 43) G dX6_qFloor_39 rfl ?_
          exact J43 _ _ _ _ hf hM ls (lv_sub hl [1] rfl)
      refine g_lc_ge (tgt := 31) G dX6_qFloor_23 dX6_qFloor_24 rfl (fun c5 => ?_) (fun c5 => ?_)
      · have hf := it_pos c5 hf
        refine g_iconst (v := 0) G dX6_qFloor_31 rfl ?_
        exact J32 _ _ _ _ hf hM ls (lv_sub hl [2, 0] rfl)
      · have hf := it_neg c5 hf
        refine g_iconst (v := 1) G dX6_qFloor_27 rfl ?_
        refine g_goto (tgt := 32) G dX6_qFloor_28 rfl ?_
        exact J32 _ _ _ _ hf hM ls (lv_sub hl [2, 0] rfl)
  · have hf := it_pos c1 hf
    refine g_lconst (v := 0) G dX6_qFloor_6 rfl ?_
    exact m_lret X hM hf dX6_qFloor_7
theorem mc_qJoins : mcV yX6_qJoins cX6_qJoins 6 (none) 1 427 := ⟨lw_V q2243 q2245 qs116 q157 q2246, ⟨rfl, by decide +kernel, by decide +kernel, by decide +kernel⟩, Nat.le_of_ble_eq_true rfl⟩
noncomputable def m_qJoins (a1 : Int32) (z : MS) : Option (MS) :=
  ck (inb ((mI z 100) - 1) (mN 99)) <|
  ck (inb ((mI z 100) - 2) (mN 99)) <|
  nm (wI z 100 ((mI z 100) - 2)) fun z1 =>
  if a1 = 1 then
    bnd (m_qClip ((mB z 99 (Int32.toNatClampNeg ((mI z 100) - 2))) + (mB z 99 (Int32.toNatClampNeg ((mI z 100) - 1)))) z1) fun r1 z2 =>
    bnv (m_qPuts r1 z2) fun z3 =>
    some z3
  else
    if a1 = 2 then
      bnd (m_qClip ((mB z 99 (Int32.toNatClampNeg ((mI z 100) - 2))) - (mB z 99 (Int32.toNatClampNeg ((mI z 100) - 1)))) z1) fun r2 z4 =>
      bnv (m_qPuts r2 z4) fun z5 =>
      some z5
    else
      if a1 = 3 then
        bnd (m_qClip ((mB z 99 (Int32.toNatClampNeg ((mI z 100) - 2))) * (mB z 99 (Int32.toNatClampNeg ((mI z 100) - 1)))) z1) fun r3 z6 =>
        bnv (m_qPuts r3 z6) fun z7 =>
        some z7
      else
        if a1 = 4 then
          bnd (m_qFloor (mB z 99 (Int32.toNatClampNeg ((mI z 100) - 2))) (mB z 99 (Int32.toNatClampNeg ((mI z 100) - 1))) z1) fun r4 z8 =>
          bnv (m_qPuts r4 z8) fun z9 =>
          some z9
        else
          if a1 = 5 then
            jn (fun (x1 : Int64) (z10 : MS) =>
              bnv (m_qPuts x1 z10) fun z11 =>
              some z11) fun j161 =>
            if (mB z 99 (Int32.toNatClampNeg ((mI z 100) - 1))) ≤ (mB z 99 (Int32.toNatClampNeg ((mI z 100) - 2))) then
              j161 (mB z 99 (Int32.toNatClampNeg ((mI z 100) - 1))) z1
            else
              j161 (mB z 99 (Int32.toNatClampNeg ((mI z 100) - 2))) z1
          else
            if a1 = 6 then
              jn (fun (x2 : Int64) (z12 : MS) =>
                bnv (m_qPuts x2 z12) fun z13 =>
                some z13) fun j181 =>
              if (mB z 99 (Int32.toNatClampNeg ((mI z 100) - 2))) ≤ (mB z 99 (Int32.toNatClampNeg ((mI z 100) - 1))) then
                j181 (mB z 99 (Int32.toNatClampNeg ((mI z 100) - 1))) z1
              else
                j181 (mB z 99 (Int32.toNatClampNeg ((mI z 100) - 2))) z1
            else
              if a1 = 7 then
                jn (fun (x3 : Int64) (z14 : MS) =>
                  bnv (m_qPuts x3 z14) fun z15 =>
                  some z15) fun j200 =>
                if (mB z 99 (Int32.toNatClampNeg ((mI z 100) - 1))) ≤ (mB z 99 (Int32.toNatClampNeg ((mI z 100) - 2))) then
                  j200 0 z1
                else
                  j200 1 z1
              else
                if a1 = 8 then
                  jn (fun (x4 : Int64) (z16 : MS) =>
                    bnv (m_qPuts x4 z16) fun z17 =>
                    some z17) fun j219 =>
                  if (mB z 99 (Int32.toNatClampNeg ((mI z 100) - 2))) ≤ (mB z 99 (Int32.toNatClampNeg ((mI z 100) - 1))) then
                    j219 0 z1
                  else
                    j219 1 z1
                else
                  if a1 = 9 then
                    jn (fun (x5 : Int64) (z18 : MS) =>
                      bnv (m_qPuts x5 z18) fun z19 =>
                      some z19) fun j238 =>
                    if (mB z 99 (Int32.toNatClampNeg ((mI z 100) - 2))) = (mB z 99 (Int32.toNatClampNeg ((mI z 100) - 1))) then
                      j238 1 z1
                    else
                      j238 0 z1
                  else
                    if a1 = 10 then
                      bnv (m_qPuts ((mB z 99 (Int32.toNatClampNeg ((mI z 100) - 2))) * (mB z 99 (Int32.toNatClampNeg ((mI z 100) - 1)))) z1) fun z20 =>
                      some z20
                    else
                      jn (fun (x6 : Int64) (z21 : MS) =>
                        bnv (m_qPuts x6 z21) fun z22 =>
                        some z22) fun j270 =>
                      if ((mB z 99 (Int32.toNatClampNeg ((mI z 100) - 2))) + (mB z 99 (Int32.toNatClampNeg ((mI z 100) - 1)))) ≤ 0 then
                        j270 0 z1
                      else
                        j270 1 z1
set_option maxHeartbeats 1000000 in
theorem c_qJoins {l : Launch} {D : MD} {o : Nat} {ad : Nat → Nat} {a1 : Int32} {z z' : MS} (hf : m_qJoins a1 z = some z') : MMet l D o ad yX6_qJoins cX6_qJoins 6 (none) 2 [.ref o, .int a1] z z' (none) := by
  unfold m_qJoins at hf
  refine m_head pnX6 rfl (Nat.le_of_ble_eq_true rfl) (fun m Z H0 ls X hM hl => ?_)
  have G := X.g
  have hl : lv_has ls 6 [(0, .ref o), (1, .int a1)] := hl
  refine g_aload_n G dX6_qJoins_0 rfl (lv_at hl 0 rfl) ?_
  refine mg_a X hM mf_99 dX6_qJoins_1 ?_
  refine g_aload_n G dX6_qJoins_4 rfl (lv_at hl 0 rfl) ?_
  refine mg_i X hM mf_100 dX6_qJoins_5 ?_
  refine g_iconst (v := 1) G dX6_qJoins_8 rfl ?_
  refine g_isub G dX6_qJoins_9 ?_
  obtain ⟨b1, hf⟩ := ck_open hf
  refine m_lald X hM (mIs.of mf_99) b1 dX6_qJoins_10 ?_
  refine g_lstore_n (lv' := [(2, .long (mB z 99 (Int32.toNatClampNeg ((mI z 100) - 1)))), (0, .ref o), (1, .int a1)]) G dX6_qJoins_11 rfl hl (Nat.le_of_ble_eq_true rfl) rfl (fun ls hl => ?_)
  refine g_aload_n G dX6_qJoins_12 rfl (lv_at hl 1 rfl) ?_
  refine mg_a X hM mf_99 dX6_qJoins_13 ?_
  refine g_aload_n G dX6_qJoins_16 rfl (lv_at hl 1 rfl) ?_
  refine mg_i X hM mf_100 dX6_qJoins_17 ?_
  refine g_iconst (v := 2) G dX6_qJoins_20 rfl ?_
  refine g_isub G dX6_qJoins_21 ?_
  obtain ⟨b2, hf⟩ := ck_open hf
  refine m_lald X hM (mIs.of mf_99) b2 dX6_qJoins_22 ?_
  refine g_lstore (lv' := [(4, .long (mB z 99 (Int32.toNatClampNeg ((mI z 100) - 2)))), (2, .long (mB z 99 (Int32.toNatClampNeg ((mI z 100) - 1)))), (0, .ref o), (1, .int a1)]) G dX6_qJoins_23 hl (Nat.le_of_ble_eq_true rfl) rfl (fun ls hl => ?_)
  refine g_aload_n G dX6_qJoins_25 rfl (lv_at hl 2 rfl) ?_
  refine g_dup G dX6_qJoins_26 rfl ?_
  refine mg_i X hM mf_100 dX6_qJoins_27 ?_
  refine g_iconst (v := 2) G dX6_qJoins_30 rfl ?_
  refine g_isub G dX6_qJoins_31 ?_
  obtain ⟨z1, hz1, hf⟩ := nm_open hf
  refine mp_i X hM mf_100 hz1 dX6_qJoins_32 (fun H locs hM => ?_)
  refine g_iload_n G dX6_qJoins_35 rfl (lv_at hl 3 rfl) ?_
  by_cases c1 : a1 = 1
  · have hf := it_pos c1 hf
    refine g_tableIn (off := 56) (tgt := 92) G dX6_qJoins_36 (by rw [c1]; decide) (by rw [c1]; decide) (by rw [c1]; rfl) rfl ?_
    refine g_aload_n G dX6_qJoins_92 rfl (lv_at hl 2 rfl) ?_
    refine g_lload G dX6_qJoins_93 (lv_at hl 0 rfl) ?_
    refine g_lload_n G dX6_qJoins_95 rfl (lv_at hl 1 rfl) ?_
    refine g_ladd G dX6_qJoins_96 ?_
    obtain ⟨r1, z2, h1, hf⟩ := bnd_open hf
    refine m_callSi (As := [.long ((mB z 99 (Int32.toNatClampNeg ((mI z 100) - 2))) + (mB z 99 (Int32.toNatClampNeg ((mI z 100) - 1))))]) (rest := [.ref o]) X hM hl mc_qClip (c_qClip h1) rfl (Nat.le_of_ble_eq_true rfl) (Nat.le_of_ble_eq_true rfl) rfl dX6_qJoins_97 (fun H locs hM => ?_)
    obtain ⟨z3, h2, hf⟩ := bnv_open hf
    refine m_callVv (As := [.long r1]) (rest := []) X hM hl mc_qPuts (c_qPuts h2) rfl (Nat.le_of_ble_eq_true rfl) (Nat.le_of_ble_eq_true rfl) rfl dX6_qJoins_100 (fun H locs hM => ?_)
    refine g_goto (tgt := 273) G dX6_qJoins_103 rfl ?_
    exact m_vret X hM hf dX6_qJoins_273
  have hf := it_neg c1 hf
  by_cases c2 : a1 = 2
  · have hf := it_pos c2 hf
    refine g_tableIn (off := 70) (tgt := 106) G dX6_qJoins_36 (by rw [c2]; decide) (by rw [c2]; decide) (by rw [c2]; rfl) rfl ?_
    refine g_aload_n G dX6_qJoins_106 rfl (lv_at hl 2 rfl) ?_
    refine g_lload G dX6_qJoins_107 (lv_at hl 0 rfl) ?_
    refine g_lload_n G dX6_qJoins_109 rfl (lv_at hl 1 rfl) ?_
    refine g_lsub G dX6_qJoins_110 ?_
    obtain ⟨r2, z4, h3, hf⟩ := bnd_open hf
    refine m_callSi (As := [.long ((mB z 99 (Int32.toNatClampNeg ((mI z 100) - 2))) - (mB z 99 (Int32.toNatClampNeg ((mI z 100) - 1))))]) (rest := [.ref o]) X hM hl mc_qClip (c_qClip h3) rfl (Nat.le_of_ble_eq_true rfl) (Nat.le_of_ble_eq_true rfl) rfl dX6_qJoins_111 (fun H locs hM => ?_)
    obtain ⟨z5, h4, hf⟩ := bnv_open hf
    refine m_callVv (As := [.long r2]) (rest := []) X hM hl mc_qPuts (c_qPuts h4) rfl (Nat.le_of_ble_eq_true rfl) (Nat.le_of_ble_eq_true rfl) rfl dX6_qJoins_114 (fun H locs hM => ?_)
    refine g_goto (tgt := 273) G dX6_qJoins_117 rfl ?_
    exact m_vret X hM hf dX6_qJoins_273
  have hf := it_neg c2 hf
  by_cases c3 : a1 = 3
  · have hf := it_pos c3 hf
    refine g_tableIn (off := 84) (tgt := 120) G dX6_qJoins_36 (by rw [c3]; decide) (by rw [c3]; decide) (by rw [c3]; rfl) rfl ?_
    refine g_aload_n G dX6_qJoins_120 rfl (lv_at hl 2 rfl) ?_
    refine g_lload G dX6_qJoins_121 (lv_at hl 0 rfl) ?_
    refine g_lload_n G dX6_qJoins_123 rfl (lv_at hl 1 rfl) ?_
    refine g_lmul G dX6_qJoins_124 ?_
    obtain ⟨r3, z6, h5, hf⟩ := bnd_open hf
    refine m_callSi (As := [.long ((mB z 99 (Int32.toNatClampNeg ((mI z 100) - 2))) * (mB z 99 (Int32.toNatClampNeg ((mI z 100) - 1))))]) (rest := [.ref o]) X hM hl mc_qClip (c_qClip h5) rfl (Nat.le_of_ble_eq_true rfl) (Nat.le_of_ble_eq_true rfl) rfl dX6_qJoins_125 (fun H locs hM => ?_)
    obtain ⟨z7, h6, hf⟩ := bnv_open hf
    refine m_callVv (As := [.long r3]) (rest := []) X hM hl mc_qPuts (c_qPuts h6) rfl (Nat.le_of_ble_eq_true rfl) (Nat.le_of_ble_eq_true rfl) rfl dX6_qJoins_128 (fun H locs hM => ?_)
    refine g_goto (tgt := 273) G dX6_qJoins_131 rfl ?_
    exact m_vret X hM hf dX6_qJoins_273
  have hf := it_neg c3 hf
  by_cases c4 : a1 = 4
  · have hf := it_pos c4 hf
    refine g_tableIn (off := 98) (tgt := 134) G dX6_qJoins_36 (by rw [c4]; decide) (by rw [c4]; decide) (by rw [c4]; rfl) rfl ?_
    refine g_aload_n G dX6_qJoins_134 rfl (lv_at hl 2 rfl) ?_
    refine g_lload G dX6_qJoins_135 (lv_at hl 0 rfl) ?_
    refine g_lload_n G dX6_qJoins_137 rfl (lv_at hl 1 rfl) ?_
    obtain ⟨r4, z8, h7, hf⟩ := bnd_open hf
    refine m_callSi (As := [.long (mB z 99 (Int32.toNatClampNeg ((mI z 100) - 2))), .long (mB z 99 (Int32.toNatClampNeg ((mI z 100) - 1)))]) (rest := [.ref o]) X hM hl mc_qFloor (c_qFloor h7) rfl (Nat.le_of_ble_eq_true rfl) (Nat.le_of_ble_eq_true rfl) rfl dX6_qJoins_138 (fun H locs hM => ?_)
    obtain ⟨z9, h8, hf⟩ := bnv_open hf
    refine m_callVv (As := [.long r4]) (rest := []) X hM hl mc_qPuts (c_qPuts h8) rfl (Nat.le_of_ble_eq_true rfl) (Nat.le_of_ble_eq_true rfl) rfl dX6_qJoins_141 (fun H locs hM => ?_)
    refine g_goto (tgt := 273) G dX6_qJoins_144 rfl ?_
    exact m_vret X hM hf dX6_qJoins_273
  have hf := it_neg c4 hf
  by_cases c5 : a1 = 5
  · have hf := it_pos c5 hf
    refine g_tableIn (off := 111) (tgt := 147) G dX6_qJoins_36 (by rw [c5]; decide) (by rw [c5]; decide) (by rw [c5]; rfl) rfl ?_
    refine g_aload_n G dX6_qJoins_147 rfl (lv_at hl 2 rfl) ?_
    refine g_lload G dX6_qJoins_148 (lv_at hl 0 rfl) ?_
    refine g_lload_n G dX6_qJoins_150 rfl (lv_at hl 1 rfl) ?_
    obtain ⟨j161, hj161, hf⟩ := jn_open hf
    have J161 : ∀ (x1 : Int64) (z10 : MS) (H : Heap) (locs : List Loc), j161 x1 z10 = some z' → MI D o ad H0 z10 H locs → ∀ ls : Array Slot, lv_has ls 6 [] → Z H locs 0 0 (F0 m 161 ls [.long x1, .ref o]) := by
      intro x1 z10 H locs hf hM ls hl
      rw [hj161] at hf
      obtain ⟨z11, h9, hf⟩ := bnv_open hf
      refine m_callVv (As := [.long x1]) (rest := []) X hM hl mc_qPuts (c_qPuts h9) rfl (Nat.le_of_ble_eq_true rfl) (Nat.le_of_ble_eq_true rfl) rfl dX6_qJoins_161 (fun H locs hM => ?_)
      refine g_goto (tgt := 273) G dX6_qJoins_164 rfl ?_
      exact m_vret X hM hf dX6_qJoins_273
    refine g_lc_ge (tgt := 160) G dX6_qJoins_151 dX6_qJoins_152 rfl (fun c6 => ?_) (fun c6 => ?_)
    · have hf := it_pos c6 hf
      refine g_lload_n G dX6_qJoins_160 rfl (lv_at hl 1 rfl) ?_
      exact J161 _ _ _ _ hf hM ls (lv_sub hl [] rfl)
    · have hf := it_neg c6 hf
      refine g_lload G dX6_qJoins_155 (lv_at hl 0 rfl) ?_
      refine g_goto (tgt := 161) G dX6_qJoins_157 rfl ?_
      exact J161 _ _ _ _ hf hM ls (lv_sub hl [] rfl)
  have hf := it_neg c5 hf
  by_cases c7 : a1 = 6
  · have hf := it_pos c7 hf
    refine g_tableIn (off := 131) (tgt := 167) G dX6_qJoins_36 (by rw [c7]; decide) (by rw [c7]; decide) (by rw [c7]; rfl) rfl ?_
    refine g_aload_n G dX6_qJoins_167 rfl (lv_at hl 2 rfl) ?_
    refine g_lload G dX6_qJoins_168 (lv_at hl 0 rfl) ?_
    refine g_lload_n G dX6_qJoins_170 rfl (lv_at hl 1 rfl) ?_
    obtain ⟨j181, hj181, hf⟩ := jn_open hf
    have J181 : ∀ (x2 : Int64) (z12 : MS) (H : Heap) (locs : List Loc), j181 x2 z12 = some z' → MI D o ad H0 z12 H locs → ∀ ls : Array Slot, lv_has ls 6 [] → Z H locs 0 0 (F0 m 181 ls [.long x2, .ref o]) := by
      intro x2 z12 H locs hf hM ls hl
      rw [hj181] at hf
      obtain ⟨z13, h10, hf⟩ := bnv_open hf
      refine m_callVv (As := [.long x2]) (rest := []) X hM hl mc_qPuts (c_qPuts h10) rfl (Nat.le_of_ble_eq_true rfl) (Nat.le_of_ble_eq_true rfl) rfl dX6_qJoins_181 (fun H locs hM => ?_)
      refine g_goto (tgt := 273) G dX6_qJoins_184 rfl ?_
      exact m_vret X hM hf dX6_qJoins_273
    refine g_lc_le (tgt := 180) G dX6_qJoins_171 dX6_qJoins_172 rfl (fun c8 => ?_) (fun c8 => ?_)
    · have hf := it_pos c8 hf
      refine g_lload_n G dX6_qJoins_180 rfl (lv_at hl 1 rfl) ?_
      exact J181 _ _ _ _ hf hM ls (lv_sub hl [] rfl)
    · have hf := it_neg c8 hf
      refine g_lload G dX6_qJoins_175 (lv_at hl 0 rfl) ?_
      refine g_goto (tgt := 181) G dX6_qJoins_177 rfl ?_
      exact J181 _ _ _ _ hf hM ls (lv_sub hl [] rfl)
  have hf := it_neg c7 hf
  by_cases c9 : a1 = 7
  · have hf := it_pos c9 hf
    refine g_tableIn (off := 151) (tgt := 187) G dX6_qJoins_36 (by rw [c9]; decide) (by rw [c9]; decide) (by rw [c9]; rfl) rfl ?_
    refine g_aload_n G dX6_qJoins_187 rfl (lv_at hl 2 rfl) ?_
    refine g_lload G dX6_qJoins_188 (lv_at hl 0 rfl) ?_
    refine g_lload_n G dX6_qJoins_190 rfl (lv_at hl 1 rfl) ?_
    obtain ⟨j200, hj200, hf⟩ := jn_open hf
    have J200 : ∀ (x3 : Int64) (z14 : MS) (H : Heap) (locs : List Loc), j200 x3 z14 = some z' → MI D o ad H0 z14 H locs → ∀ ls : Array Slot, lv_has ls 6 [] → Z H locs 0 0 (F0 m 200 ls [.long x3, .ref o]) := by
      intro x3 z14 H locs hf hM ls hl
      rw [hj200] at hf
      obtain ⟨z15, h11, hf⟩ := bnv_open hf
      refine m_callVv (As := [.long x3]) (rest := []) X hM hl mc_qPuts (c_qPuts h11) rfl (Nat.le_of_ble_eq_true rfl) (Nat.le_of_ble_eq_true rfl) rfl dX6_qJoins_200 (fun H locs hM => ?_)
      refine g_goto (tgt := 273) G dX6_qJoins_203 rfl ?_
      exact m_vret X hM hf dX6_qJoins_273
    refine g_lc_ge (tgt := 199) G dX6_qJoins_191 dX6_qJoins_192 rfl (fun c10 => ?_) (fun c10 => ?_)
    · have hf := it_pos c10 hf
      refine g_lconst (v := 0) G dX6_qJoins_199 rfl ?_
      exact J200 _ _ _ _ hf hM ls (lv_sub hl [] rfl)
    · have hf := it_neg c10 hf
      refine g_lconst (v := 1) G dX6_qJoins_195 rfl ?_
      refine g_goto (tgt := 200) G dX6_qJoins_196 rfl ?_
      exact J200 _ _ _ _ hf hM ls (lv_sub hl [] rfl)
  have hf := it_neg c9 hf
  by_cases c11 : a1 = 8
  · have hf := it_pos c11 hf
    refine g_tableIn (off := 170) (tgt := 206) G dX6_qJoins_36 (by rw [c11]; decide) (by rw [c11]; decide) (by rw [c11]; rfl) rfl ?_
    refine g_aload_n G dX6_qJoins_206 rfl (lv_at hl 2 rfl) ?_
    refine g_lload G dX6_qJoins_207 (lv_at hl 0 rfl) ?_
    refine g_lload_n G dX6_qJoins_209 rfl (lv_at hl 1 rfl) ?_
    obtain ⟨j219, hj219, hf⟩ := jn_open hf
    have J219 : ∀ (x4 : Int64) (z16 : MS) (H : Heap) (locs : List Loc), j219 x4 z16 = some z' → MI D o ad H0 z16 H locs → ∀ ls : Array Slot, lv_has ls 6 [] → Z H locs 0 0 (F0 m 219 ls [.long x4, .ref o]) := by
      intro x4 z16 H locs hf hM ls hl
      rw [hj219] at hf
      obtain ⟨z17, h12, hf⟩ := bnv_open hf
      refine m_callVv (As := [.long x4]) (rest := []) X hM hl mc_qPuts (c_qPuts h12) rfl (Nat.le_of_ble_eq_true rfl) (Nat.le_of_ble_eq_true rfl) rfl dX6_qJoins_219 (fun H locs hM => ?_)
      refine g_goto (tgt := 273) G dX6_qJoins_222 rfl ?_
      exact m_vret X hM hf dX6_qJoins_273
    refine g_lc_le (tgt := 218) G dX6_qJoins_210 dX6_qJoins_211 rfl (fun c12 => ?_) (fun c12 => ?_)
    · have hf := it_pos c12 hf
      refine g_lconst (v := 0) G dX6_qJoins_218 rfl ?_
      exact J219 _ _ _ _ hf hM ls (lv_sub hl [] rfl)
    · have hf := it_neg c12 hf
      refine g_lconst (v := 1) G dX6_qJoins_214 rfl ?_
      refine g_goto (tgt := 219) G dX6_qJoins_215 rfl ?_
      exact J219 _ _ _ _ hf hM ls (lv_sub hl [] rfl)
  have hf := it_neg c11 hf
  by_cases c13 : a1 = 9
  · have hf := it_pos c13 hf
    refine g_tableIn (off := 189) (tgt := 225) G dX6_qJoins_36 (by rw [c13]; decide) (by rw [c13]; decide) (by rw [c13]; rfl) rfl ?_
    refine g_aload_n G dX6_qJoins_225 rfl (lv_at hl 2 rfl) ?_
    refine g_lload G dX6_qJoins_226 (lv_at hl 0 rfl) ?_
    refine g_lload_n G dX6_qJoins_228 rfl (lv_at hl 1 rfl) ?_
    obtain ⟨j238, hj238, hf⟩ := jn_open hf
    have J238 : ∀ (x5 : Int64) (z18 : MS) (H : Heap) (locs : List Loc), j238 x5 z18 = some z' → MI D o ad H0 z18 H locs → ∀ ls : Array Slot, lv_has ls 6 [] → Z H locs 0 0 (F0 m 238 ls [.long x5, .ref o]) := by
      intro x5 z18 H locs hf hM ls hl
      rw [hj238] at hf
      obtain ⟨z19, h13, hf⟩ := bnv_open hf
      refine m_callVv (As := [.long x5]) (rest := []) X hM hl mc_qPuts (c_qPuts h13) rfl (Nat.le_of_ble_eq_true rfl) (Nat.le_of_ble_eq_true rfl) rfl dX6_qJoins_238 (fun H locs hM => ?_)
      refine g_goto (tgt := 273) G dX6_qJoins_241 rfl ?_
      exact m_vret X hM hf dX6_qJoins_273
    refine g_lc_ne (tgt := 237) G dX6_qJoins_229 dX6_qJoins_230 rfl (fun c14 => ?_) (fun c14 => ?_)
    · have hf := it_neg c14 hf
      refine g_lconst (v := 0) G dX6_qJoins_237 rfl ?_
      exact J238 _ _ _ _ hf hM ls (lv_sub hl [] rfl)
    · have hf := it_pos c14 hf
      refine g_lconst (v := 1) G dX6_qJoins_233 rfl ?_
      refine g_goto (tgt := 238) G dX6_qJoins_234 rfl ?_
      exact J238 _ _ _ _ hf hM ls (lv_sub hl [] rfl)
  have hf := it_neg c13 hf
  by_cases c15 : a1 = 10
  · have hf := it_pos c15 hf
    refine g_tableIn (off := 208) (tgt := 244) G dX6_qJoins_36 (by rw [c15]; decide) (by rw [c15]; decide) (by rw [c15]; rfl) rfl ?_
    refine g_aload_n G dX6_qJoins_244 rfl (lv_at hl 2 rfl) ?_
    refine g_lload G dX6_qJoins_245 (lv_at hl 0 rfl) ?_
    refine g_lload_n G dX6_qJoins_247 rfl (lv_at hl 1 rfl) ?_
    refine g_lmul G dX6_qJoins_248 ?_
    obtain ⟨z20, h14, hf⟩ := bnv_open hf
    refine m_callVv (As := [.long ((mB z 99 (Int32.toNatClampNeg ((mI z 100) - 2))) * (mB z 99 (Int32.toNatClampNeg ((mI z 100) - 1))))]) (rest := []) X hM hl mc_qPuts (c_qPuts h14) rfl (Nat.le_of_ble_eq_true rfl) (Nat.le_of_ble_eq_true rfl) rfl dX6_qJoins_249 (fun H locs hM => ?_)
    refine g_goto (tgt := 273) G dX6_qJoins_252 rfl ?_
    exact m_vret X hM hf dX6_qJoins_273
  have hf := it_neg c15 hf
  refine g_tableOut (tgt := 255) G dX6_qJoins_36 (by have ec1 := lv_neT c1 (a := 1) rfl; have ec2 := lv_neT c2 (a := 2) rfl; have ec3 := lv_neT c3 (a := 3) rfl; have ec4 := lv_neT c4 (a := 4) rfl; have ec5 := lv_neT c5 (a := 5) rfl; have ec7 := lv_neT c7 (a := 6) rfl; have ec9 := lv_neT c9 (a := 7) rfl; have ec11 := lv_neT c11 (a := 8) rfl; have ec13 := lv_neT c13 (a := 9) rfl; have ec15 := lv_neT c15 (a := 10) rfl; omega) rfl ?_
  refine g_aload_n G dX6_qJoins_255 rfl (lv_at hl 2 rfl) ?_
  refine g_lload G dX6_qJoins_256 (lv_at hl 0 rfl) ?_
  refine g_lload_n G dX6_qJoins_258 rfl (lv_at hl 1 rfl) ?_
  refine g_ladd G dX6_qJoins_259 ?_
  refine g_lconst (v := 0) G dX6_qJoins_260 rfl ?_
  obtain ⟨j270, hj270, hf⟩ := jn_open hf
  have J270 : ∀ (x6 : Int64) (z21 : MS) (H : Heap) (locs : List Loc), j270 x6 z21 = some z' → MI D o ad H0 z21 H locs → ∀ ls : Array Slot, lv_has ls 6 [] → Z H locs 0 0 (F0 m 270 ls [.long x6, .ref o]) := by
    intro x6 z21 H locs hf hM ls hl
    rw [hj270] at hf
    obtain ⟨z22, h15, hf⟩ := bnv_open hf
    refine m_callVv (As := [.long x6]) (rest := []) X hM hl mc_qPuts (c_qPuts h15) rfl (Nat.le_of_ble_eq_true rfl) (Nat.le_of_ble_eq_true rfl) rfl dX6_qJoins_270 (fun H locs hM => ?_)
    exact m_vret X hM hf dX6_qJoins_273
  refine g_lc_le (tgt := 269) G dX6_qJoins_261 dX6_qJoins_262 rfl (fun c16 => ?_) (fun c16 => ?_)
  · have hf := it_pos c16 hf
    refine g_lconst (v := 0) G dX6_qJoins_269 rfl ?_
    exact J270 _ _ _ _ hf hM ls (lv_sub hl [] rfl)
  · have hf := it_neg c16 hf
    refine g_lconst (v := 1) G dX6_qJoins_265 rfl ?_
    refine g_goto (tgt := 270) G dX6_qJoins_266 rfl ?_
    exact J270 _ _ _ _ hf hM ls (lv_sub hl [] rfl)
theorem mc_qPartOf : mcV yX6_qPartOf cX6_qPartOf 3 (some .long) 2 423 := ⟨lw_V q2239 q2241 qs115 q157 q2242, ⟨rfl, by decide +kernel, by decide +kernel, by decide +kernel⟩, Nat.le_of_ble_eq_true rfl⟩
noncomputable def m_qPartOf (a1 : Int32) (a2 : Int32) (z : MS) : Option (Int64 × MS) :=
  if a1 = 0 then
    ck (inb (8 + (mI z 55)) (mN 42)) <|
    some ((Int32.toInt64 (mA z 42 (Int32.toNatClampNeg (8 + (mI z 55))))), z)
  else
    if a1 = 1 then
      if (mI z 52) = 2 then
        bnd (m_rightMany a2 z) fun r3 z3 =>
        some ((Int32.toInt64 r3), z3)
      else
        bnd (m_rightOf (mI z 55) z) fun r1 z1 =>
        bnd (m_bits r1 z1) fun r2 z2 =>
        some ((Int32.toInt64 r2), z2)
    else
      if a1 = 2 then
        if (mI z 52) = 2 then
          bnd (m_wrongMany a2 z) fun r6 z6 =>
          some ((Int32.toInt64 r6), z6)
        else
          bnd (m_wrongOf (mI z 55) z) fun r4 z4 =>
          bnd (m_bits r4 z4) fun r5 z5 =>
          some ((Int32.toInt64 r5), z5)
      else
        if a1 = 3 then
          some ((Int32.toInt64 (mA z 53 (Int32.toNatClampNeg 0))), z)
        else
          if a1 = 4 then
            ck (inb (8 + a2) (mN 41)) <|
            some ((Int32.toInt64 (mA z 41 (Int32.toNatClampNeg (8 + a2)))), z)
          else
            if a1 = 5 then
              bnd (m_masterOf (mI z 55) z) fun r7 z7 =>
              bnd (m_pupilsOf r7 z7) fun r8 z8 =>
              bnd (m_bits r8 z8) fun r9 z9 =>
              some ((Int32.toInt64 r9), z9)
            else
              if a1 = 6 then
                bnd (m_masterOf (mI z 55) z) fun r10 z10 =>
                ck (inb (8 + r10) (mN 42)) <|
                some ((Int32.toInt64 (mA z10 42 (Int32.toNatClampNeg (8 + r10)))), z10)
              else
                if a1 = 7 then
                  bnd (m_leftOf (mI z 55) z) fun r11 z11 =>
                  some ((Int32.toInt64 r11), z11)
                else
                  if a1 = 8 then
                    bnd (m_marksOf (mI z 55) z) fun r12 z12 =>
                    some ((Int32.toInt64 r12), z12)
                  else
                    if a1 = 9 then
                      some ((Int32.toInt64 a2), z)
                    else
                      if a1 = 10 then
                        bnd (m_rightOf (mI z 55) z) fun r13 z13 =>
                        some ((Int32.toInt64 ((r13 >>> (a2 &&& 31)) &&& 1)), z13)
                      else
                        bnd (m_wrongOf (mI z 55) z) fun r14 z14 =>
                        some ((Int32.toInt64 ((r14 >>> (a2 &&& 31)) &&& 1)), z14)
set_option maxHeartbeats 1000000 in
theorem c_qPartOf {l : Launch} {D : MD} {o : Nat} {ad : Nat → Nat} {a1 : Int32} {a2 : Int32} {z z' : MS} {r : Int64} (hf : m_qPartOf a1 a2 z = some (r, z')) : MMet l D o ad yX6_qPartOf cX6_qPartOf 3 (some .long) 3 [.ref o, .int a1, .int a2] z z' (some (.long r)) := by
  unfold m_qPartOf at hf
  refine m_head pnX6 rfl (Nat.le_of_ble_eq_true rfl) (fun m Z H0 ls X hM hl => ?_)
  have G := X.g
  have hl : lv_has ls 3 [(0, .ref o), (1, .int a1), (2, .int a2)] := hl
  refine g_iload_n G dX6_qPartOf_0 rfl (lv_at hl 1 rfl) ?_
  by_cases c1 : a1 = 0
  · have hf := it_pos c1 hf
    refine g_tableIn (off := 59) (tgt := 60) G dX6_qPartOf_1 (by rw [c1]; decide) (by rw [c1]; decide) (by rw [c1]; rfl) rfl ?_
    refine g_aload_n G dX6_qPartOf_60 rfl (lv_at hl 0 rfl) ?_
    refine mg_a X hM mf_42 dX6_qPartOf_61 ?_
    refine g_bipush (v := 8) G dX6_qPartOf_64 rfl ?_
    refine g_aload_n G dX6_qPartOf_66 rfl (lv_at hl 0 rfl) ?_
    refine mg_i X hM mf_55 dX6_qPartOf_67 ?_
    refine g_iadd G dX6_qPartOf_70 ?_
    obtain ⟨b1, hf⟩ := ck_open hf
    refine m_iald X hM (mIs.of mf_42) b1 dX6_qPartOf_71 ?_
    refine g_i2l (v := Int32.toInt64 (mA z 42 (Int32.toNatClampNeg (8 + (mI z 55))))) G dX6_qPartOf_72 rfl ?_
    exact m_lret X hM hf dX6_qPartOf_73
  have hf := it_neg c1 hf
  by_cases c2 : a1 = 1
  · have hf := it_pos c2 hf
    refine g_tableIn (off := 73) (tgt := 74) G dX6_qPartOf_1 (by rw [c2]; decide) (by rw [c2]; decide) (by rw [c2]; rfl) rfl ?_
    refine g_aload_n G dX6_qPartOf_74 rfl (lv_at hl 0 rfl) ?_
    refine mg_i X hM mf_52 dX6_qPartOf_75 ?_
    refine g_iconst (v := 2) G dX6_qPartOf_78 rfl ?_
    refine g_icmp_ne (tgt := 91) G dX6_qPartOf_79 rfl (fun c3 => ?_) (fun c3 => ?_)
    · have hf := it_neg c3 hf
      refine g_aload_n G dX6_qPartOf_91 rfl (lv_at hl 0 rfl) ?_
      refine g_aload_n G dX6_qPartOf_92 rfl (lv_at hl 0 rfl) ?_
      refine mg_i X hM mf_55 dX6_qPartOf_93 ?_
      obtain ⟨r1, z1, h1, hf⟩ := bnd_open hf
      refine m_callVi (As := [.int (mI z 55)]) (rest := []) X hM hl mc_rightOf (c_rightOf h1) rfl (Nat.le_of_ble_eq_true rfl) (Nat.le_of_ble_eq_true rfl) rfl dX6_qPartOf_96 (fun H locs hM => ?_)
      obtain ⟨r2, z2, h2, hf⟩ := bnd_open hf
      refine m_callSi (As := [.int r1]) (rest := []) X hM hl mc_bits (c_bits h2) rfl (Nat.le_of_ble_eq_true rfl) (Nat.le_of_ble_eq_true rfl) rfl dX6_qPartOf_99 (fun H locs hM => ?_)
      refine g_i2l (v := Int32.toInt64 r2) G dX6_qPartOf_102 rfl ?_
      exact m_lret X hM hf dX6_qPartOf_103
    · have hf := it_pos c3 hf
      refine g_aload_n G dX6_qPartOf_82 rfl (lv_at hl 0 rfl) ?_
      refine g_iload_n G dX6_qPartOf_83 rfl (lv_at hl 2 rfl) ?_
      obtain ⟨r3, z3, h3, hf⟩ := bnd_open hf
      refine m_callVi (As := [.int a2]) (rest := []) X hM hl mc_rightMany (c_rightMany h3) rfl (Nat.le_of_ble_eq_true rfl) (Nat.le_of_ble_eq_true rfl) rfl dX6_qPartOf_84 (fun H locs hM => ?_)
      refine g_i2l (v := Int32.toInt64 r3) G dX6_qPartOf_87 rfl ?_
      refine g_goto (tgt := 103) G dX6_qPartOf_88 rfl ?_
      exact m_lret X hM hf dX6_qPartOf_103
  have hf := it_neg c2 hf
  by_cases c4 : a1 = 2
  · have hf := it_pos c4 hf
    refine g_tableIn (off := 103) (tgt := 104) G dX6_qPartOf_1 (by rw [c4]; decide) (by rw [c4]; decide) (by rw [c4]; rfl) rfl ?_
    refine g_aload_n G dX6_qPartOf_104 rfl (lv_at hl 0 rfl) ?_
    refine mg_i X hM mf_52 dX6_qPartOf_105 ?_
    refine g_iconst (v := 2) G dX6_qPartOf_108 rfl ?_
    refine g_icmp_ne (tgt := 121) G dX6_qPartOf_109 rfl (fun c5 => ?_) (fun c5 => ?_)
    · have hf := it_neg c5 hf
      refine g_aload_n G dX6_qPartOf_121 rfl (lv_at hl 0 rfl) ?_
      refine g_aload_n G dX6_qPartOf_122 rfl (lv_at hl 0 rfl) ?_
      refine mg_i X hM mf_55 dX6_qPartOf_123 ?_
      obtain ⟨r4, z4, h4, hf⟩ := bnd_open hf
      refine m_callVi (As := [.int (mI z 55)]) (rest := []) X hM hl mc_wrongOf (c_wrongOf h4) rfl (Nat.le_of_ble_eq_true rfl) (Nat.le_of_ble_eq_true rfl) rfl dX6_qPartOf_126 (fun H locs hM => ?_)
      obtain ⟨r5, z5, h5, hf⟩ := bnd_open hf
      refine m_callSi (As := [.int r4]) (rest := []) X hM hl mc_bits (c_bits h5) rfl (Nat.le_of_ble_eq_true rfl) (Nat.le_of_ble_eq_true rfl) rfl dX6_qPartOf_129 (fun H locs hM => ?_)
      refine g_i2l (v := Int32.toInt64 r5) G dX6_qPartOf_132 rfl ?_
      exact m_lret X hM hf dX6_qPartOf_133
    · have hf := it_pos c5 hf
      refine g_aload_n G dX6_qPartOf_112 rfl (lv_at hl 0 rfl) ?_
      refine g_iload_n G dX6_qPartOf_113 rfl (lv_at hl 2 rfl) ?_
      obtain ⟨r6, z6, h6, hf⟩ := bnd_open hf
      refine m_callVi (As := [.int a2]) (rest := []) X hM hl mc_wrongMany (c_wrongMany h6) rfl (Nat.le_of_ble_eq_true rfl) (Nat.le_of_ble_eq_true rfl) rfl dX6_qPartOf_114 (fun H locs hM => ?_)
      refine g_i2l (v := Int32.toInt64 r6) G dX6_qPartOf_117 rfl ?_
      refine g_goto (tgt := 133) G dX6_qPartOf_118 rfl ?_
      exact m_lret X hM hf dX6_qPartOf_133
  have hf := it_neg c4 hf
  by_cases c6 : a1 = 3
  · have hf := it_pos c6 hf
    refine g_tableIn (off := 133) (tgt := 134) G dX6_qPartOf_1 (by rw [c6]; decide) (by rw [c6]; decide) (by rw [c6]; rfl) rfl ?_
    refine g_aload_n G dX6_qPartOf_134 rfl (lv_at hl 0 rfl) ?_
    refine mg_a X hM mf_53 dX6_qPartOf_135 ?_
    refine g_iconst (v := 0) G dX6_qPartOf_138 rfl ?_
    refine m_iald X hM (mIs.of mf_53) (by decide) dX6_qPartOf_139 ?_
    refine g_i2l (v := Int32.toInt64 (mA z 53 (Int32.toNatClampNeg 0))) G dX6_qPartOf_140 rfl ?_
    exact m_lret X hM hf dX6_qPartOf_141
  have hf := it_neg c6 hf
  by_cases c7 : a1 = 4
  · have hf := it_pos c7 hf
    refine g_tableIn (off := 141) (tgt := 142) G dX6_qPartOf_1 (by rw [c7]; decide) (by rw [c7]; decide) (by rw [c7]; rfl) rfl ?_
    refine g_aload_n G dX6_qPartOf_142 rfl (lv_at hl 0 rfl) ?_
    refine mg_a X hM mf_41 dX6_qPartOf_143 ?_
    refine g_bipush (v := 8) G dX6_qPartOf_146 rfl ?_
    refine g_iload_n G dX6_qPartOf_148 rfl (lv_at hl 2 rfl) ?_
    refine g_iadd G dX6_qPartOf_149 ?_
    obtain ⟨b2, hf⟩ := ck_open hf
    refine m_iald X hM (mIs.of mf_41) b2 dX6_qPartOf_150 ?_
    refine g_i2l (v := Int32.toInt64 (mA z 41 (Int32.toNatClampNeg (8 + a2)))) G dX6_qPartOf_151 rfl ?_
    exact m_lret X hM hf dX6_qPartOf_152
  have hf := it_neg c7 hf
  by_cases c8 : a1 = 5
  · have hf := it_pos c8 hf
    refine g_tableIn (off := 152) (tgt := 153) G dX6_qPartOf_1 (by rw [c8]; decide) (by rw [c8]; decide) (by rw [c8]; rfl) rfl ?_
    refine g_aload_n G dX6_qPartOf_153 rfl (lv_at hl 0 rfl) ?_
    refine g_aload_n G dX6_qPartOf_154 rfl (lv_at hl 0 rfl) ?_
    refine g_aload_n G dX6_qPartOf_155 rfl (lv_at hl 0 rfl) ?_
    refine mg_i X hM mf_55 dX6_qPartOf_156 ?_
    obtain ⟨r7, z7, h7, hf⟩ := bnd_open hf
    refine m_callVi (As := [.int (mI z 55)]) (rest := [.ref o]) X hM hl mc_masterOf (c_masterOf h7) rfl (Nat.le_of_ble_eq_true rfl) (Nat.le_of_ble_eq_true rfl) rfl dX6_qPartOf_159 (fun H locs hM => ?_)
    obtain ⟨r8, z8, h8, hf⟩ := bnd_open hf
    refine m_callVi (As := [.int r7]) (rest := []) X hM hl mc_pupilsOf (c_pupilsOf h8) rfl (Nat.le_of_ble_eq_true rfl) (Nat.le_of_ble_eq_true rfl) rfl dX6_qPartOf_162 (fun H locs hM => ?_)
    obtain ⟨r9, z9, h9, hf⟩ := bnd_open hf
    refine m_callSi (As := [.int r8]) (rest := []) X hM hl mc_bits (c_bits h9) rfl (Nat.le_of_ble_eq_true rfl) (Nat.le_of_ble_eq_true rfl) rfl dX6_qPartOf_165 (fun H locs hM => ?_)
    refine g_i2l (v := Int32.toInt64 r9) G dX6_qPartOf_168 rfl ?_
    exact m_lret X hM hf dX6_qPartOf_169
  have hf := it_neg c8 hf
  by_cases c9 : a1 = 6
  · have hf := it_pos c9 hf
    refine g_tableIn (off := 169) (tgt := 170) G dX6_qPartOf_1 (by rw [c9]; decide) (by rw [c9]; decide) (by rw [c9]; rfl) rfl ?_
    refine g_aload_n G dX6_qPartOf_170 rfl (lv_at hl 0 rfl) ?_
    refine mg_a X hM mf_42 dX6_qPartOf_171 ?_
    refine g_bipush (v := 8) G dX6_qPartOf_174 rfl ?_
    refine g_aload_n G dX6_qPartOf_176 rfl (lv_at hl 0 rfl) ?_
    refine g_aload_n G dX6_qPartOf_177 rfl (lv_at hl 0 rfl) ?_
    refine mg_i X hM mf_55 dX6_qPartOf_178 ?_
    obtain ⟨r10, z10, h10, hf⟩ := bnd_open hf
    refine m_callVi (As := [.int (mI z 55)]) (rest := [.int 8, .ref (ad 42)]) X hM hl mc_masterOf (c_masterOf h10) rfl (Nat.le_of_ble_eq_true rfl) (Nat.le_of_ble_eq_true rfl) rfl dX6_qPartOf_181 (fun H locs hM => ?_)
    refine g_iadd G dX6_qPartOf_184 ?_
    obtain ⟨b3, hf⟩ := ck_open hf
    refine m_iald X hM (mIs.of mf_42) b3 dX6_qPartOf_185 ?_
    refine g_i2l (v := Int32.toInt64 (mA z10 42 (Int32.toNatClampNeg (8 + r10)))) G dX6_qPartOf_186 rfl ?_
    exact m_lret X hM hf dX6_qPartOf_187
  have hf := it_neg c9 hf
  by_cases c10 : a1 = 7
  · have hf := it_pos c10 hf
    refine g_tableIn (off := 187) (tgt := 188) G dX6_qPartOf_1 (by rw [c10]; decide) (by rw [c10]; decide) (by rw [c10]; rfl) rfl ?_
    refine g_aload_n G dX6_qPartOf_188 rfl (lv_at hl 0 rfl) ?_
    refine g_aload_n G dX6_qPartOf_189 rfl (lv_at hl 0 rfl) ?_
    refine mg_i X hM mf_55 dX6_qPartOf_190 ?_
    obtain ⟨r11, z11, h11, hf⟩ := bnd_open hf
    refine m_callVi (As := [.int (mI z 55)]) (rest := []) X hM hl mc_leftOf (c_leftOf h11) rfl (Nat.le_of_ble_eq_true rfl) (Nat.le_of_ble_eq_true rfl) rfl dX6_qPartOf_193 (fun H locs hM => ?_)
    refine g_i2l (v := Int32.toInt64 r11) G dX6_qPartOf_196 rfl ?_
    exact m_lret X hM hf dX6_qPartOf_197
  have hf := it_neg c10 hf
  by_cases c11 : a1 = 8
  · have hf := it_pos c11 hf
    refine g_tableIn (off := 197) (tgt := 198) G dX6_qPartOf_1 (by rw [c11]; decide) (by rw [c11]; decide) (by rw [c11]; rfl) rfl ?_
    refine g_aload_n G dX6_qPartOf_198 rfl (lv_at hl 0 rfl) ?_
    refine g_aload_n G dX6_qPartOf_199 rfl (lv_at hl 0 rfl) ?_
    refine mg_i X hM mf_55 dX6_qPartOf_200 ?_
    obtain ⟨r12, z12, h12, hf⟩ := bnd_open hf
    refine m_callVi (As := [.int (mI z 55)]) (rest := []) X hM hl mc_marksOf (c_marksOf h12) rfl (Nat.le_of_ble_eq_true rfl) (Nat.le_of_ble_eq_true rfl) rfl dX6_qPartOf_203 (fun H locs hM => ?_)
    refine g_i2l (v := Int32.toInt64 r12) G dX6_qPartOf_206 rfl ?_
    exact m_lret X hM hf dX6_qPartOf_207
  have hf := it_neg c11 hf
  by_cases c12 : a1 = 9
  · have hf := it_pos c12 hf
    refine g_tableIn (off := 207) (tgt := 208) G dX6_qPartOf_1 (by rw [c12]; decide) (by rw [c12]; decide) (by rw [c12]; rfl) rfl ?_
    refine g_iload_n G dX6_qPartOf_208 rfl (lv_at hl 2 rfl) ?_
    refine g_i2l (v := Int32.toInt64 a2) G dX6_qPartOf_209 rfl ?_
    exact m_lret X hM hf dX6_qPartOf_210
  have hf := it_neg c12 hf
  by_cases c13 : a1 = 10
  · have hf := it_pos c13 hf
    refine g_tableIn (off := 210) (tgt := 211) G dX6_qPartOf_1 (by rw [c13]; decide) (by rw [c13]; decide) (by rw [c13]; rfl) rfl ?_
    refine g_aload_n G dX6_qPartOf_211 rfl (lv_at hl 0 rfl) ?_
    refine g_aload_n G dX6_qPartOf_212 rfl (lv_at hl 0 rfl) ?_
    refine mg_i X hM mf_55 dX6_qPartOf_213 ?_
    obtain ⟨r13, z13, h13, hf⟩ := bnd_open hf
    refine m_callVi (As := [.int (mI z 55)]) (rest := []) X hM hl mc_rightOf (c_rightOf h13) rfl (Nat.le_of_ble_eq_true rfl) (Nat.le_of_ble_eq_true rfl) rfl dX6_qPartOf_216 (fun H locs hM => ?_)
    refine g_iload_n G dX6_qPartOf_219 rfl (lv_at hl 2 rfl) ?_
    refine g_ishr G dX6_qPartOf_220 ?_
    refine g_iconst (v := 1) G dX6_qPartOf_221 rfl ?_
    refine g_iand G dX6_qPartOf_222 ?_
    refine g_i2l (v := Int32.toInt64 ((r13 >>> (a2 &&& 31)) &&& 1)) G dX6_qPartOf_223 rfl ?_
    exact m_lret X hM hf dX6_qPartOf_224
  have hf := it_neg c13 hf
  refine g_tableOut (tgt := 225) G dX6_qPartOf_1 (by have ec1 := lv_neT c1 (a := 0) rfl; have ec2 := lv_neT c2 (a := 1) rfl; have ec4 := lv_neT c4 (a := 2) rfl; have ec6 := lv_neT c6 (a := 3) rfl; have ec7 := lv_neT c7 (a := 4) rfl; have ec8 := lv_neT c8 (a := 5) rfl; have ec9 := lv_neT c9 (a := 6) rfl; have ec10 := lv_neT c10 (a := 7) rfl; have ec11 := lv_neT c11 (a := 8) rfl; have ec12 := lv_neT c12 (a := 9) rfl; have ec13 := lv_neT c13 (a := 10) rfl; omega) rfl ?_
  refine g_aload_n G dX6_qPartOf_225 rfl (lv_at hl 0 rfl) ?_
  refine g_aload_n G dX6_qPartOf_226 rfl (lv_at hl 0 rfl) ?_
  refine mg_i X hM mf_55 dX6_qPartOf_227 ?_
  obtain ⟨r14, z14, h14, hf⟩ := bnd_open hf
  refine m_callVi (As := [.int (mI z 55)]) (rest := []) X hM hl mc_wrongOf (c_wrongOf h14) rfl (Nat.le_of_ble_eq_true rfl) (Nat.le_of_ble_eq_true rfl) rfl dX6_qPartOf_230 (fun H locs hM => ?_)
  refine g_iload_n G dX6_qPartOf_233 rfl (lv_at hl 2 rfl) ?_
  refine g_ishr G dX6_qPartOf_234 ?_
  refine g_iconst (v := 1) G dX6_qPartOf_235 rfl ?_
  refine g_iand G dX6_qPartOf_236 ?_
  refine g_i2l (v := Int32.toInt64 ((r14 >>> (a2 &&& 31)) &&& 1)) G dX6_qPartOf_237 rfl ?_
  exact m_lret X hM hf dX6_qPartOf_238
theorem mc_holds : mcV yX6_holds cX6_holds 6 (some .boolean) 3 433 := ⟨lw_V q2231 q2233 qs113 q157 q2234, ⟨rfl, by decide +kernel, by decide +kernel, by decide +kernel⟩, Nat.le_of_ble_eq_true rfl⟩
noncomputable def m_holds_L34 (a1 : Int32) (a3 : Int32) (k167 : MS → Option (Bool × MS)) (s34 : Int32 → MS → Option (Bool × MS)) (x2 : Int32) (z6 : MS) : Option (Bool × MS) :=
  ck (inb (3 + a1) (mN 48)) <|
  if (mA z6 48 (Int32.toNatClampNeg (3 + a1))) ≤ x2 then
    k167 z6
  else
    ck (inb (1600 + x2) (mN 49)) <|
    jn (fun (z7 : MS) =>
      s34 (x2 + 1) z7) fun j161 =>
    if (mA z6 49 (Int32.toNatClampNeg (1600 + x2))) < 1000 then
      if (mA z6 49 (Int32.toNatClampNeg (1600 + x2))) < 40 then
        if (mA z6 49 (Int32.toNatClampNeg (1600 + x2))) = 13 then
          bnv (m_qPuts 1 z6) fun z10 =>
          j161 z10
        else
          if (mA z6 49 (Int32.toNatClampNeg (1600 + x2))) = 12 then
            ck (inb ((mI z6 100) - 1) (mN 99)) <|
            ck (inb ((mI z6 100) - 1) (mN 99)) <|
            nm (wB z6 99 (Int32.toNatClampNeg ((mI z6 100) - 1)) (1 - (mB z6 99 (Int32.toNatClampNeg ((mI z6 100) - 1))))) fun z9 =>
            j161 z9
          else
            bnv (m_qJoins (mA z6 49 (Int32.toNatClampNeg (1600 + x2))) z6) fun z8 =>
            j161 z8
      else
        bnd (m_qPartOf ((mA z6 49 (Int32.toNatClampNeg (1600 + x2))) - 40) a3 z6) fun r1 z11 =>
        bnv (m_qPuts r1 z11) fun z12 =>
        j161 z12
    else
      bnv (m_qPuts (Int32.toInt64 ((mA z6 49 (Int32.toNatClampNeg (1600 + x2))) - 1000)) z6) fun z13 =>
      j161 z13
noncomputable def m_holds (a1 : Int32) (a2 : Int32) (a3 : Int32) (z : MS) : Option (Bool × MS) :=
  nm (wI z 55 a2) fun z1 =>
  jn (fun (x1 : Bool) (z2 : MS) =>
    nm (wI z2 52 (bI x1)) fun z3 =>
    nm (wI z3 100 0) fun z4 =>
    ck (inb (3 + a1) (mN 47)) <|
    jn (fun (z5 : MS) =>
      if (mB z5 99 (Int32.toNatClampNeg 0)) = 1 then
        some (true, z5)
      else
        some (false, z5)) fun k167 =>
    fx (m_holds_L34 a1 a3 k167) (fun _ _ => none) FU (mA z4 47 (Int32.toNatClampNeg (3 + a1))) z4) fun j16 =>
  if a1 = 2 then
    j16 true z1
  else
    j16 false z1
set_option maxHeartbeats 1000000 in
theorem c_holds {l : Launch} {D : MD} {o : Nat} {ad : Nat → Nat} {a1 : Int32} {a2 : Int32} {a3 : Int32} {z z' : MS} {r : Bool} (hf : m_holds a1 a2 a3 z = some (r, z')) : MMet l D o ad yX6_holds cX6_holds 6 (some .boolean) 4 [.ref o, .int a1, .int a2, .int a3] z z' (some (.int (bI r))) := by
  unfold m_holds at hf
  refine m_head pnX6 rfl (Nat.le_of_ble_eq_true rfl) (fun m Z H0 ls X hM hl => ?_)
  have G := X.g
  have hl : lv_has ls 6 [(0, .ref o), (1, .int a1), (2, .int a2), (3, .int a3)] := hl
  refine g_aload_n G dX6_holds_0 rfl (lv_at hl 0 rfl) ?_
  refine g_iload_n G dX6_holds_1 rfl (lv_at hl 2 rfl) ?_
  obtain ⟨z1, hz1, hf⟩ := nm_open hf
  refine mp_i X hM mf_55 hz1 dX6_holds_2 (fun H locs hM => ?_)
  refine g_aload_n G dX6_holds_5 rfl (lv_at hl 0 rfl) ?_
  refine g_iload_n G dX6_holds_6 rfl (lv_at hl 1 rfl) ?_
  refine g_iconst (v := 2) G dX6_holds_7 rfl ?_
  obtain ⟨j16, hj16, hf⟩ := jn_open hf
  have J16 : ∀ (x1 : Bool) (z2 : MS) (H : Heap) (locs : List Loc), j16 x1 z2 = some (r, z') → MI D o ad H0 z2 H locs → ∀ ls : Array Slot, lv_has ls 6 [(0, .ref o), (1, .int a1), (3, .int a3)] → Z H locs 0 0 (F0 m 16 ls [.int (bI x1), .ref o]) := by
    intro x1 z2 H locs hf hM ls hl
    rw [hj16] at hf
    obtain ⟨z3, hz3, hf⟩ := nm_open hf
    refine mp_i X hM mf_52 hz3 dX6_holds_16 (fun H locs hM => ?_)
    refine g_aload_n G dX6_holds_19 rfl (lv_at hl 0 rfl) ?_
    refine g_iconst (v := 0) G dX6_holds_20 rfl ?_
    obtain ⟨z4, hz4, hf⟩ := nm_open hf
    refine mp_i X hM mf_100 hz4 dX6_holds_21 (fun H locs hM => ?_)
    refine g_aload_n G dX6_holds_24 rfl (lv_at hl 0 rfl) ?_
    refine mg_a X hM mf_47 dX6_holds_25 ?_
    refine g_iconst (v := 3) G dX6_holds_28 rfl ?_
    refine g_iload_n G dX6_holds_29 rfl (lv_at hl 1 rfl) ?_
    refine g_iadd G dX6_holds_30 ?_
    obtain ⟨b1, hf⟩ := ck_open hf
    refine m_iald X hM (mIs.of mf_47) b1 dX6_holds_31 ?_
    refine g_istore (lv' := [(4, .int (mA z4 47 (Int32.toNatClampNeg (3 + a1)))), (0, .ref o), (1, .int a1), (3, .int a3)]) G dX6_holds_32 hl (Nat.le_of_ble_eq_true rfl) rfl (fun ls hl => ?_)
    obtain ⟨k167, hk167, hf⟩ := jn_open hf
    have K167 : ∀ (z5 : MS) (H : Heap) (locs : List Loc), k167 z5 = some (r, z') → MI D o ad H0 z5 H locs → ∀ ls : Array Slot, lv_has ls 6 [(0, .ref o)] → Z H locs 0 0 (F0 m 167 ls []) := by
      intro z5 H locs hf hM ls hl
      rw [hk167] at hf
      refine g_aload_n G dX6_holds_167 rfl (lv_at hl 0 rfl) ?_
      refine mg_a X hM mf_99 dX6_holds_168 ?_
      refine g_iconst (v := 0) G dX6_holds_171 rfl ?_
      refine m_lald X hM (mIs.of mf_99) (by decide) dX6_holds_172 ?_
      refine g_lconst (v := 1) G dX6_holds_173 rfl ?_
      refine g_lc_ne (tgt := 182) G dX6_holds_174 dX6_holds_175 rfl (fun c1 => ?_) (fun c1 => ?_)
      · have hf := it_neg c1 hf
        refine g_iconst (v := 0) G dX6_holds_182 rfl ?_
        exact m_zret X hM hf dX6_holds_183
      · have hf := it_pos c1 hf
        refine g_iconst (v := 1) G dX6_holds_178 rfl ?_
        refine g_goto (tgt := 183) G dX6_holds_179 rfl ?_
        exact m_zret X hM hf dX6_holds_183
    have L34 : ∀ (n : Nat) (x2 : Int32) (z6 : MS) (H : Heap) (locs : List Loc), fx (m_holds_L34 a1 a3 k167) (fun _ _ => none) n x2 z6 = some (r, z') → MI D o ad H0 z6 H locs → ∀ ls : Array Slot, lv_has ls 6 [(0, .ref o), (1, .int a1), (3, .int a3), (4, .int x2)] → Z H locs 0 0 (F0 m 34 ls []) := by
      intro n
      induction n with
      | zero => intro x2 z6 H locs hf; exact absurd hf (by intro q; cases q)
      | succ n ih34 =>
        intro x2 z6 H locs hf hM ls hl
        rw [fx_s] at hf
        generalize fx (m_holds_L34 a1 a3 k167) (fun _ _ => none) n = s34 at hf ih34
        unfold m_holds_L34 at hf
        refine g_iload G dX6_holds_34 (lv_at hl 3 rfl) ?_
        refine g_aload_n G dX6_holds_36 rfl (lv_at hl 0 rfl) ?_
        refine mg_a X hM mf_48 dX6_holds_37 ?_
        refine g_iconst (v := 3) G dX6_holds_40 rfl ?_
        refine g_iload_n G dX6_holds_41 rfl (lv_at hl 1 rfl) ?_
        refine g_iadd G dX6_holds_42 ?_
        obtain ⟨b2, hf⟩ := ck_open hf
        refine m_iald X hM (mIs.of mf_48) b2 dX6_holds_43 ?_
        refine g_icmp_ge (tgt := 167) G dX6_holds_44 rfl (fun c2 => ?_) (fun c2 => ?_)
        · have hf := it_pos c2 hf
          exact K167 _ _ _ hf hM ls (lv_sub hl [0] rfl)
        · have hf := it_neg c2 hf
          refine g_aload_n G dX6_holds_47 rfl (lv_at hl 0 rfl) ?_
          refine mg_a X hM mf_49 dX6_holds_48 ?_
          refine g_sipush (v := 1600) G dX6_holds_51 rfl ?_
          refine g_iload G dX6_holds_54 (lv_at hl 3 rfl) ?_
          refine g_iadd G dX6_holds_56 ?_
          obtain ⟨b3, hf⟩ := ck_open hf
          refine m_iald X hM (mIs.of mf_49) b3 dX6_holds_57 ?_
          refine g_istore (lv' := [(5, .int (mA z6 49 (Int32.toNatClampNeg (1600 + x2)))), (0, .ref o), (1, .int a1), (3, .int a3), (4, .int x2)]) G dX6_holds_58 hl (Nat.le_of_ble_eq_true rfl) rfl (fun ls hl => ?_)
          refine g_iload G dX6_holds_60 (lv_at hl 0 rfl) ?_
          refine g_sipush (v := 1000) G dX6_holds_62 rfl ?_
          obtain ⟨j161, hj161, hf⟩ := jn_open hf
          have J161 : ∀ (z7 : MS) (H : Heap) (locs : List Loc), j161 z7 = some (r, z') → MI D o ad H0 z7 H locs → ∀ ls : Array Slot, lv_has ls 6 [(0, .ref o), (1, .int a1), (3, .int a3), (4, .int x2)] → Z H locs 0 0 (F0 m 161 ls []) := by
            intro z7 H locs hf hM ls hl
            rw [hj161] at hf
            refine g_iinc (v := x2 + 1) (lv' := [(4, .int (x2 + 1)), (0, .ref o), (1, .int a1), (3, .int a3)]) G dX6_holds_161 hl (k := 3) rfl rfl (Nat.le_of_ble_eq_true rfl) rfl (fun ls hl => ?_)
            refine g_goto (tgt := 34) G dX6_holds_164 rfl ?_
            exact ih34 _ _ _ _ hf hM ls (lv_sub hl [1, 2, 3, 0] rfl)
          refine g_icmp_lt (tgt := 82) G dX6_holds_65 rfl (fun c3 => ?_) (fun c3 => ?_)
          · have hf := it_pos c3 hf
            refine g_iload G dX6_holds_82 (lv_at hl 0 rfl) ?_
            refine g_bipush (v := 40) G dX6_holds_84 rfl ?_
            refine g_icmp_lt (tgt := 106) G dX6_holds_86 rfl (fun c4 => ?_) (fun c4 => ?_)
            · have hf := it_pos c4 hf
              refine g_iload G dX6_holds_106 (lv_at hl 0 rfl) ?_
              refine g_bipush (v := 13) G dX6_holds_108 rfl ?_
              refine g_icmp_ne (tgt := 121) G dX6_holds_110 rfl (fun c5 => ?_) (fun c5 => ?_)
              · have hf := it_neg c5 hf
                refine g_iload G dX6_holds_121 (lv_at hl 0 rfl) ?_
                refine g_bipush (v := 12) G dX6_holds_123 rfl ?_
                refine g_icmp_ne (tgt := 155) G dX6_holds_125 rfl (fun c6 => ?_) (fun c6 => ?_)
                · have hf := it_neg c6 hf
                  refine g_aload_n G dX6_holds_155 rfl (lv_at hl 1 rfl) ?_
                  refine g_iload G dX6_holds_156 (lv_at hl 0 rfl) ?_
                  obtain ⟨z8, h1, hf⟩ := bnv_open hf
                  refine m_callVv (As := [.int (mA z6 49 (Int32.toNatClampNeg (1600 + x2)))]) (rest := []) X hM hl mc_qJoins (c_qJoins h1) rfl (Nat.le_of_ble_eq_true rfl) (Nat.le_of_ble_eq_true rfl) rfl dX6_holds_158 (fun H locs hM => ?_)
                  exact J161 _ _ _ hf hM ls (lv_sub hl [1, 2, 3, 4] rfl)
                · have hf := it_pos c6 hf
                  refine g_aload_n G dX6_holds_128 rfl (lv_at hl 1 rfl) ?_
                  refine mg_a X hM mf_99 dX6_holds_129 ?_
                  refine g_aload_n G dX6_holds_132 rfl (lv_at hl 1 rfl) ?_
                  refine mg_i X hM mf_100 dX6_holds_133 ?_
                  refine g_iconst (v := 1) G dX6_holds_136 rfl ?_
                  refine g_isub G dX6_holds_137 ?_
                  refine g_lconst (v := 1) G dX6_holds_138 rfl ?_
                  refine g_aload_n G dX6_holds_139 rfl (lv_at hl 1 rfl) ?_
                  refine mg_a X hM mf_99 dX6_holds_140 ?_
                  refine g_aload_n G dX6_holds_143 rfl (lv_at hl 1 rfl) ?_
                  refine mg_i X hM mf_100 dX6_holds_144 ?_
                  refine g_iconst (v := 1) G dX6_holds_147 rfl ?_
                  refine g_isub G dX6_holds_148 ?_
                  obtain ⟨b4, hf⟩ := ck_open hf
                  refine m_lald X hM (mIs.of mf_99) b4 dX6_holds_149 ?_
                  refine g_lsub G dX6_holds_150 ?_
                  obtain ⟨b5, hf⟩ := ck_open hf
                  obtain ⟨z9, hz9, hf⟩ := nm_open hf
                  refine m_last X hM (mIs.of mf_99) b5 hz9 dX6_holds_151 (fun H locs hM => ?_)
                  refine g_goto (tgt := 161) G dX6_holds_152 rfl ?_
                  exact J161 _ _ _ hf hM ls (lv_sub hl [1, 2, 3, 4] rfl)
              · have hf := it_pos c5 hf
                refine g_aload_n G dX6_holds_113 rfl (lv_at hl 1 rfl) ?_
                refine g_lconst (v := 1) G dX6_holds_114 rfl ?_
                obtain ⟨z10, h2, hf⟩ := bnv_open hf
                refine m_callVv (As := [.long 1]) (rest := []) X hM hl mc_qPuts (c_qPuts h2) rfl (Nat.le_of_ble_eq_true rfl) (Nat.le_of_ble_eq_true rfl) rfl dX6_holds_115 (fun H locs hM => ?_)
                refine g_goto (tgt := 161) G dX6_holds_118 rfl ?_
                exact J161 _ _ _ hf hM ls (lv_sub hl [1, 2, 3, 4] rfl)
            · have hf := it_neg c4 hf
              refine g_aload_n G dX6_holds_89 rfl (lv_at hl 1 rfl) ?_
              refine g_aload_n G dX6_holds_90 rfl (lv_at hl 1 rfl) ?_
              refine g_iload G dX6_holds_91 (lv_at hl 0 rfl) ?_
              refine g_bipush (v := 40) G dX6_holds_93 rfl ?_
              refine g_isub G dX6_holds_95 ?_
              refine g_iload_n G dX6_holds_96 rfl (lv_at hl 3 rfl) ?_
              obtain ⟨r1, z11, h3, hf⟩ := bnd_open hf
              refine m_callVi (As := [.int ((mA z6 49 (Int32.toNatClampNeg (1600 + x2))) - 40), .int a3]) (rest := [.ref o]) X hM hl mc_qPartOf (c_qPartOf h3) rfl (Nat.le_of_ble_eq_true rfl) (Nat.le_of_ble_eq_true rfl) rfl dX6_holds_97 (fun H locs hM => ?_)
              obtain ⟨z12, h4, hf⟩ := bnv_open hf
              refine m_callVv (As := [.long r1]) (rest := []) X hM hl mc_qPuts (c_qPuts h4) rfl (Nat.le_of_ble_eq_true rfl) (Nat.le_of_ble_eq_true rfl) rfl dX6_holds_100 (fun H locs hM => ?_)
              refine g_goto (tgt := 161) G dX6_holds_103 rfl ?_
              exact J161 _ _ _ hf hM ls (lv_sub hl [1, 2, 3, 4] rfl)
          · have hf := it_neg c3 hf
            refine g_aload_n G dX6_holds_68 rfl (lv_at hl 1 rfl) ?_
            refine g_iload G dX6_holds_69 (lv_at hl 0 rfl) ?_
            refine g_sipush (v := 1000) G dX6_holds_71 rfl ?_
            refine g_isub G dX6_holds_74 ?_
            refine g_i2l (v := Int32.toInt64 ((mA z6 49 (Int32.toNatClampNeg (1600 + x2))) - 1000)) G dX6_holds_75 rfl ?_
            obtain ⟨z13, h5, hf⟩ := bnv_open hf
            refine m_callVv (As := [.long (Int32.toInt64 ((mA z6 49 (Int32.toNatClampNeg (1600 + x2))) - 1000))]) (rest := []) X hM hl mc_qPuts (c_qPuts h5) rfl (Nat.le_of_ble_eq_true rfl) (Nat.le_of_ble_eq_true rfl) rfl dX6_holds_76 (fun H locs hM => ?_)
            refine g_goto (tgt := 161) G dX6_holds_79 rfl ?_
            exact J161 _ _ _ hf hM ls (lv_sub hl [1, 2, 3, 4] rfl)
    exact L34 FU _ _ _ _ hf hM ls (lv_sub hl [1, 2, 3, 0] rfl)
  refine g_icmp_ne (tgt := 15) G dX6_holds_8 rfl (fun c7 => ?_) (fun c7 => ?_)
  · have hf := it_neg c7 hf
    refine g_iconst (v := 0) G dX6_holds_15 rfl ?_
    exact J16 _ _ _ _ hf hM ls (lv_sub hl [0, 1, 3] rfl)
  · have hf := it_pos c7 hf
    refine g_iconst (v := 1) G dX6_holds_11 rfl ?_
    refine g_goto (tgt := 16) G dX6_holds_12 rfl ?_
    exact J16 _ _ _ _ hf hM ls (lv_sub hl [0, 1, 3] rfl)
theorem mc_taughtNext : mcV yX6_taughtNext cX6_taughtNext 6 (some .int) 1 436 := ⟨lw_V q2223 q2225 qs111 q157 q2226, ⟨rfl, by decide +kernel, by decide +kernel, by decide +kernel⟩, Nat.le_of_ble_eq_true rfl⟩
noncomputable def m_taughtNext_L15 (a1 : Int32) (r1 : Int32) (s15 : Int32 → MS → Option (Int32 × MS)) (x1 : Int32) (z2 : MS) : Option (Int32 × MS) :=
  bnd (m_factMany z2) fun r2 z3 =>
  if r2 ≤ x1 then
    some ((-1), z3)
  else
    bnd (m_isOf a1 x1 z3) fun r3 z4 =>
    bnd (m_isOf r1 x1 z4) fun r4 z5 =>
    jn (fun (z6 : MS) =>
      s15 (x1 + 1) z6) fun j87 =>
    if r4 = 0 then
      j87 z5
    else
      if r3 = 1 then
        j87 z5
      else
        jn (fun (z7 : MS) =>
          if (mA z7 47 (Int32.toNatClampNeg 3)) = (-1) then
            some (x1, z7)
          else
            bnd (m_holds 0 a1 x1 z7) fun r5 z8 =>
            if (bI r5) = 0 then
              j87 z8
            else
              some (x1, z8)) fun j65 =>
        if r3 = 2 then
          if r4 = 2 then
            j87 z5
          else
            j65 z5
        else
          j65 z5
noncomputable def m_taughtNext (a1 : Int32) (z : MS) : Option (Int32 × MS) :=
  bnd (m_masterOf a1 z) fun r1 z1 =>
  if r1 = (-1) then
    some ((-1), z1)
  else
    fx (m_taughtNext_L15 a1 r1) (fun _ _ => none) FU 0 z1
set_option maxHeartbeats 1000000 in
theorem c_taughtNext {l : Launch} {D : MD} {o : Nat} {ad : Nat → Nat} {a1 : Int32} {z z' : MS} {r : Int32} (hf : m_taughtNext a1 z = some (r, z')) : MMet l D o ad yX6_taughtNext cX6_taughtNext 6 (some .int) 5 [.ref o, .int a1] z z' (some (.int r)) := by
  unfold m_taughtNext at hf
  refine m_head pnX6 rfl (Nat.le_of_ble_eq_true rfl) (fun m Z H0 ls X hM hl => ?_)
  have G := X.g
  have hl : lv_has ls 6 [(0, .ref o), (1, .int a1)] := hl
  refine g_aload_n G dX6_taughtNext_0 rfl (lv_at hl 0 rfl) ?_
  refine g_iload_n G dX6_taughtNext_1 rfl (lv_at hl 1 rfl) ?_
  obtain ⟨r1, z1, h1, hf⟩ := bnd_open hf
  refine m_callVi (As := [.int a1]) (rest := []) X hM hl mc_masterOf (c_masterOf h1) rfl (Nat.le_of_ble_eq_true rfl) (Nat.le_of_ble_eq_true rfl) rfl dX6_taughtNext_2 (fun H locs hM => ?_)
  refine g_istore_n (lv' := [(2, .int r1), (0, .ref o), (1, .int a1)]) G dX6_taughtNext_5 rfl hl (Nat.le_of_ble_eq_true rfl) rfl (fun ls hl => ?_)
  refine g_iload_n G dX6_taughtNext_6 rfl (lv_at hl 0 rfl) ?_
  refine g_iconst (v := (-1)) G dX6_taughtNext_7 rfl ?_
  refine g_icmp_ne (tgt := 13) G dX6_taughtNext_8 rfl (fun c1 => ?_) (fun c1 => ?_)
  · have hf := it_neg c1 hf
    refine g_iconst (v := 0) G dX6_taughtNext_13 rfl ?_
    refine g_istore_n (lv' := [(3, .int 0), (2, .int r1), (0, .ref o), (1, .int a1)]) G dX6_taughtNext_14 rfl hl (Nat.le_of_ble_eq_true rfl) rfl (fun ls hl => ?_)
    have L15 : ∀ (n : Nat) (x1 : Int32) (z2 : MS) (H : Heap) (locs : List Loc), fx (m_taughtNext_L15 a1 r1) (fun _ _ => none) n x1 z2 = some (r, z') → MI D o ad H0 z2 H locs → ∀ ls : Array Slot, lv_has ls 6 [(0, .ref o), (1, .int a1), (2, .int r1), (3, .int x1)] → Z H locs 0 0 (F0 m 15 ls []) := by
      intro n
      induction n with
      | zero => intro x1 z2 H locs hf; exact absurd hf (by intro q; cases q)
      | succ n ih15 =>
        intro x1 z2 H locs hf hM ls hl
        rw [fx_s] at hf
        generalize fx (m_taughtNext_L15 a1 r1) (fun _ _ => none) n = s15 at hf ih15
        unfold m_taughtNext_L15 at hf
        refine g_iload_n G dX6_taughtNext_15 rfl (lv_at hl 3 rfl) ?_
        refine g_aload_n G dX6_taughtNext_16 rfl (lv_at hl 0 rfl) ?_
        obtain ⟨r2, z3, h2, hf⟩ := bnd_open hf
        refine m_callVi (As := []) (rest := [.int x1]) X hM hl mc_factMany (c_factMany h2) rfl (Nat.le_of_ble_eq_true rfl) (Nat.le_of_ble_eq_true rfl) rfl dX6_taughtNext_17 (fun H locs hM => ?_)
        refine g_icmp_ge (tgt := 93) G dX6_taughtNext_20 rfl (fun c2 => ?_) (fun c2 => ?_)
        · have hf := it_pos c2 hf
          refine g_iconst (v := (-1)) G dX6_taughtNext_93 rfl ?_
          exact m_iret X hM hf dX6_taughtNext_94
        · have hf := it_neg c2 hf
          refine g_aload_n G dX6_taughtNext_23 rfl (lv_at hl 0 rfl) ?_
          refine g_iload_n G dX6_taughtNext_24 rfl (lv_at hl 1 rfl) ?_
          refine g_iload_n G dX6_taughtNext_25 rfl (lv_at hl 3 rfl) ?_
          obtain ⟨r3, z4, h3, hf⟩ := bnd_open hf
          refine m_callVi (As := [.int a1, .int x1]) (rest := []) X hM hl mc_isOf (c_isOf h3) rfl (Nat.le_of_ble_eq_true rfl) (Nat.le_of_ble_eq_true rfl) rfl dX6_taughtNext_26 (fun H locs hM => ?_)
          refine g_istore (lv' := [(4, .int r3), (0, .ref o), (1, .int a1), (2, .int r1), (3, .int x1)]) G dX6_taughtNext_29 hl (Nat.le_of_ble_eq_true rfl) rfl (fun ls hl => ?_)
          refine g_aload_n G dX6_taughtNext_31 rfl (lv_at hl 1 rfl) ?_
          refine g_iload_n G dX6_taughtNext_32 rfl (lv_at hl 3 rfl) ?_
          refine g_iload_n G dX6_taughtNext_33 rfl (lv_at hl 4 rfl) ?_
          obtain ⟨r4, z5, h4, hf⟩ := bnd_open hf
          refine m_callVi (As := [.int r1, .int x1]) (rest := []) X hM hl mc_isOf (c_isOf h4) rfl (Nat.le_of_ble_eq_true rfl) (Nat.le_of_ble_eq_true rfl) rfl dX6_taughtNext_34 (fun H locs hM => ?_)
          refine g_istore (lv' := [(5, .int r4), (4, .int r3), (0, .ref o), (1, .int a1), (2, .int r1), (3, .int x1)]) G dX6_taughtNext_37 hl (Nat.le_of_ble_eq_true rfl) rfl (fun ls hl => ?_)
          refine g_iload G dX6_taughtNext_39 (lv_at hl 0 rfl) ?_
          obtain ⟨j87, hj87, hf⟩ := jn_open hf
          have J87 : ∀ (z6 : MS) (H : Heap) (locs : List Loc), j87 z6 = some (r, z') → MI D o ad H0 z6 H locs → ∀ ls : Array Slot, lv_has ls 6 [(0, .ref o), (1, .int a1), (2, .int r1), (3, .int x1)] → Z H locs 0 0 (F0 m 87 ls []) := by
            intro z6 H locs hf hM ls hl
            rw [hj87] at hf
            refine g_iinc (v := x1 + 1) (lv' := [(3, .int (x1 + 1)), (0, .ref o), (1, .int a1), (2, .int r1)]) G dX6_taughtNext_87 hl (k := 3) rfl rfl (Nat.le_of_ble_eq_true rfl) rfl (fun ls hl => ?_)
            refine g_goto (tgt := 15) G dX6_taughtNext_90 rfl ?_
            exact ih15 _ _ _ _ hf hM ls (lv_sub hl [1, 2, 3, 0] rfl)
          refine g_if_eq (tgt := 87) G dX6_taughtNext_41 rfl (fun c3 => ?_) (fun c3 => ?_)
          · have hf := it_pos c3 hf
            exact J87 _ _ _ hf hM ls (lv_sub hl [2, 3, 4, 5] rfl)
          · have hf := it_neg c3 hf
            refine g_iload G dX6_taughtNext_44 (lv_at hl 1 rfl) ?_
            refine g_iconst (v := 1) G dX6_taughtNext_46 rfl ?_
            refine g_icmp_eq (tgt := 87) G dX6_taughtNext_47 rfl (fun c4 => ?_) (fun c4 => ?_)
            · have hf := it_pos c4 hf
              exact J87 _ _ _ hf hM ls (lv_sub hl [2, 3, 4, 5] rfl)
            · have hf := it_neg c4 hf
              refine g_iload G dX6_taughtNext_50 (lv_at hl 1 rfl) ?_
              refine g_iconst (v := 2) G dX6_taughtNext_52 rfl ?_
              obtain ⟨j65, hj65, hf⟩ := jn_open hf
              have J65 : ∀ (z7 : MS) (H : Heap) (locs : List Loc), j65 z7 = some (r, z') → MI D o ad H0 z7 H locs → ∀ ls : Array Slot, lv_has ls 6 [(0, .ref o), (1, .int a1), (2, .int r1), (3, .int x1)] → Z H locs 0 0 (F0 m 65 ls []) := by
                intro z7 H locs hf hM ls hl
                rw [hj65] at hf
                refine g_aload_n G dX6_taughtNext_65 rfl (lv_at hl 0 rfl) ?_
                refine mg_a X hM mf_47 dX6_taughtNext_66 ?_
                refine g_iconst (v := 3) G dX6_taughtNext_69 rfl ?_
                refine m_iald X hM (mIs.of mf_47) (by decide) dX6_taughtNext_70 ?_
                refine g_iconst (v := (-1)) G dX6_taughtNext_71 rfl ?_
                refine g_icmp_eq (tgt := 85) G dX6_taughtNext_72 rfl (fun c5 => ?_) (fun c5 => ?_)
                · have hf := it_pos c5 hf
                  refine g_iload_n G dX6_taughtNext_85 rfl (lv_at hl 3 rfl) ?_
                  exact m_iret X hM hf dX6_taughtNext_86
                · have hf := it_neg c5 hf
                  refine g_aload_n G dX6_taughtNext_75 rfl (lv_at hl 0 rfl) ?_
                  refine g_iconst (v := 0) G dX6_taughtNext_76 rfl ?_
                  refine g_iload_n G dX6_taughtNext_77 rfl (lv_at hl 1 rfl) ?_
                  refine g_iload_n G dX6_taughtNext_78 rfl (lv_at hl 3 rfl) ?_
                  obtain ⟨r5, z8, h5, hf⟩ := bnd_open hf
                  refine m_callVi (As := [.int 0, .int a1, .int x1]) (rest := []) X hM hl mc_holds (c_holds h5) rfl (Nat.le_of_ble_eq_true rfl) (Nat.le_of_ble_eq_true rfl) rfl dX6_taughtNext_79 (fun H locs hM => ?_)
                  refine g_if_eq (tgt := 87) G dX6_taughtNext_82 rfl (fun c6 => ?_) (fun c6 => ?_)
                  · have hf := it_pos c6 hf
                    exact J87 _ _ _ hf hM ls (lv_sub hl [0, 1, 2, 3] rfl)
                  · have hf := it_neg c6 hf
                    refine g_iload_n G dX6_taughtNext_85 rfl (lv_at hl 3 rfl) ?_
                    exact m_iret X hM hf dX6_taughtNext_86
              refine g_icmp_ne (tgt := 65) G dX6_taughtNext_53 rfl (fun c7 => ?_) (fun c7 => ?_)
              · have hf := it_neg c7 hf
                exact J65 _ _ _ hf hM ls (lv_sub hl [2, 3, 4, 5] rfl)
              · have hf := it_pos c7 hf
                refine g_iload G dX6_taughtNext_56 (lv_at hl 0 rfl) ?_
                refine g_iconst (v := 2) G dX6_taughtNext_58 rfl ?_
                refine g_icmp_ne (tgt := 65) G dX6_taughtNext_59 rfl (fun c8 => ?_) (fun c8 => ?_)
                · have hf := it_neg c8 hf
                  exact J65 _ _ _ hf hM ls (lv_sub hl [2, 3, 4, 5] rfl)
                · have hf := it_pos c8 hf
                  refine g_goto (tgt := 87) G dX6_taughtNext_62 rfl ?_
                  exact J87 _ _ _ hf hM ls (lv_sub hl [2, 3, 4, 5] rfl)
    exact L15 FU _ _ _ _ hf hM ls (lv_sub hl [2, 3, 1, 0] rfl)
  · have hf := it_pos c1 hf
    refine g_iconst (v := (-1)) G dX6_taughtNext_11 rfl ?_
    exact m_iret X hM hf dX6_taughtNext_12
theorem mc_allTaught : mcV yX6_allTaught cX6_allTaught 5 (none) 1 465 := ⟨lw_V q2281 q2283 qs121 q157 q2284, ⟨rfl, by decide +kernel, by decide +kernel, by decide +kernel⟩, Nat.le_of_ble_eq_true rfl⟩
noncomputable def m_allTaught_L118 (s118 : Int32 → MS → Option (MS)) (x1 : Int32) (z2 : MS) : Option (MS) :=
  bnd (m_personMany z2) fun r1 z3 =>
  if r1 ≤ x1 then
    some z3
  else
    ck (inb x1 (mN 56)) <|
    jn (fun (z4 : MS) =>
      s118 (x1 + 1) z4) fun j153 =>
    if (mA z3 56 (Int32.toNatClampNeg x1)) = (-1) then
      j153 z3
    else
      ck (inb x1 (mN 56)) <|
      ck (inb x1 (mN 57)) <|
      bnv (m_makes x1 (mA z3 56 (Int32.toNatClampNeg x1)) (mA z3 57 (Int32.toNatClampNeg x1)) z3) fun z5 =>
      j153 z5
noncomputable def m_allTaught_L2 (a1 : Int32) (k116 : MS → Option (MS)) (s2 : Int32 → MS → Option (MS)) (x2 : Int32) (z6 : MS) : Option (MS) :=
  bnd (m_personMany z6) fun r2 z7 =>
  if r2 ≤ x2 then
    k116 z7
  else
    jn (fun (x3 : Int32) (z8 : MS) =>
      ck (inb x2 (mN 56)) <|
      nm (wA z8 56 (Int32.toNatClampNeg x2) x3) fun z9 =>
      jn (fun (z10 : MS) =>
        s2 (x2 + 1) z10) fun j110 =>
      if x3 = (-1) then
        j110 z9
      else
        bnd (m_isOf x2 x3 z9) fun r3 z11 =>
        jn (fun (x4 : Bool) (z12 : MS) =>
          jn (fun (x5 : Int32) (z13 : MS) =>
            ck (inb x2 (mN 57)) <|
            nm (wA z13 57 (Int32.toNatClampNeg x2) x5) fun z14 =>
            j110 z14) fun j109 =>
          if (bI x4) = 0 then
            j109 1 z12
          else
            j109 2 z12) fun j92 =>
        jn (fun (z15 : MS) =>
          j92 false z15) fun j91 =>
        if r3 = 0 then
          bnd (m_masterOf x2 z11) fun r4 z16 =>
          bnd (m_isOf r4 x3 z16) fun r5 z17 =>
          jn (fun (z18 : MS) =>
            j92 true z18) fun j87 =>
          if r5 = 2 then
            j87 z17
          else
            if (mA z17 47 (Int32.toNatClampNeg 4)) = (-1) then
              j91 z17
            else
              bnd (m_holds 1 x2 x3 z17) fun r6 z19 =>
              if (bI r6) = 0 then
                j91 z19
              else
                j87 z19
        else
          j91 z11) fun j28 =>
    if ((a1 >>> (x2 &&& 31)) &&& 1) = 1 then
      j28 (-1) z7
    else
      bnd (m_taughtNext x2 z7) fun r7 z20 =>
      j28 r7 z20
noncomputable def m_allTaught (a1 : Int32) (z : MS) : Option (MS) :=
  jn (fun (z1 : MS) =>
    fx m_allTaught_L118 (fun _ _ => none) FU 0 z1) fun k116 =>
  fx (m_allTaught_L2 a1 k116) (fun _ _ => none) FU 0 z
set_option maxHeartbeats 1000000 in
theorem c_allTaught {l : Launch} {D : MD} {o : Nat} {ad : Nat → Nat} {a1 : Int32} {z z' : MS} (hf : m_allTaught a1 z = some z') : MMet l D o ad yX6_allTaught cX6_allTaught 5 (none) 6 [.ref o, .int a1] z z' (none) := by
  unfold m_allTaught at hf
  refine m_head pnX6 rfl (Nat.le_of_ble_eq_true rfl) (fun m Z H0 ls X hM hl => ?_)
  have G := X.g
  have hl : lv_has ls 5 [(0, .ref o), (1, .int a1)] := hl
  refine g_iconst (v := 0) G dX6_allTaught_0 rfl ?_
  refine g_istore_n (lv' := [(2, .int 0), (0, .ref o), (1, .int a1)]) G dX6_allTaught_1 rfl hl (Nat.le_of_ble_eq_true rfl) rfl (fun ls hl => ?_)
  obtain ⟨k116, hk116, hf⟩ := jn_open hf
  have K116 : ∀ (z1 : MS) (H : Heap) (locs : List Loc), k116 z1 = some z' → MI D o ad H0 z1 H locs → ∀ ls : Array Slot, lv_has ls 5 [(0, .ref o)] → Z H locs 0 0 (F0 m 116 ls []) := by
    intro z1 H locs hf hM ls hl
    rw [hk116] at hf
    refine g_iconst (v := 0) G dX6_allTaught_116 rfl ?_
    refine g_istore_n (lv' := [(2, .int 0), (0, .ref o)]) G dX6_allTaught_117 rfl hl (Nat.le_of_ble_eq_true rfl) rfl (fun ls hl => ?_)
    have L118 : ∀ (n : Nat) (x1 : Int32) (z2 : MS) (H : Heap) (locs : List Loc), fx m_allTaught_L118 (fun _ _ => none) n x1 z2 = some z' → MI D o ad H0 z2 H locs → ∀ ls : Array Slot, lv_has ls 5 [(0, .ref o), (2, .int x1)] → Z H locs 0 0 (F0 m 118 ls []) := by
      intro n
      induction n with
      | zero => intro x1 z2 H locs hf; exact absurd hf (by intro q; cases q)
      | succ n ih118 =>
        intro x1 z2 H locs hf hM ls hl
        rw [fx_s] at hf
        generalize fx m_allTaught_L118 (fun _ _ => none) n = s118 at hf ih118
        unfold m_allTaught_L118 at hf
        refine g_iload_n G dX6_allTaught_118 rfl (lv_at hl 1 rfl) ?_
        refine g_aload_n G dX6_allTaught_119 rfl (lv_at hl 0 rfl) ?_
        obtain ⟨r1, z3, h1, hf⟩ := bnd_open hf
        refine m_callVi (As := []) (rest := [.int x1]) X hM hl mc_personMany (c_personMany h1) rfl (Nat.le_of_ble_eq_true rfl) (Nat.le_of_ble_eq_true rfl) rfl dX6_allTaught_120 (fun H locs hM => ?_)
        refine g_icmp_ge (tgt := 159) G dX6_allTaught_123 rfl (fun c1 => ?_) (fun c1 => ?_)
        · have hf := it_pos c1 hf
          exact m_vret X hM hf dX6_allTaught_159
        · have hf := it_neg c1 hf
          refine g_aload_n G dX6_allTaught_126 rfl (lv_at hl 0 rfl) ?_
          refine mg_a X hM mf_56 dX6_allTaught_127 ?_
          refine g_iload_n G dX6_allTaught_130 rfl (lv_at hl 1 rfl) ?_
          obtain ⟨b1, hf⟩ := ck_open hf
          refine m_iald X hM (mIs.of mf_56) b1 dX6_allTaught_131 ?_
          refine g_iconst (v := (-1)) G dX6_allTaught_132 rfl ?_
          obtain ⟨j153, hj153, hf⟩ := jn_open hf
          have J153 : ∀ (z4 : MS) (H : Heap) (locs : List Loc), j153 z4 = some z' → MI D o ad H0 z4 H locs → ∀ ls : Array Slot, lv_has ls 5 [(0, .ref o), (2, .int x1)] → Z H locs 0 0 (F0 m 153 ls []) := by
            intro z4 H locs hf hM ls hl
            rw [hj153] at hf
            refine g_iinc (v := x1 + 1) (lv' := [(2, .int (x1 + 1)), (0, .ref o)]) G dX6_allTaught_153 hl (k := 1) rfl rfl (Nat.le_of_ble_eq_true rfl) rfl (fun ls hl => ?_)
            refine g_goto (tgt := 118) G dX6_allTaught_156 rfl ?_
            exact ih118 _ _ _ _ hf hM ls (lv_sub hl [1, 0] rfl)
          refine g_icmp_eq (tgt := 153) G dX6_allTaught_133 rfl (fun c2 => ?_) (fun c2 => ?_)
          · have hf := it_pos c2 hf
            exact J153 _ _ _ hf hM ls (lv_sub hl [0, 1] rfl)
          · have hf := it_neg c2 hf
            refine g_aload_n G dX6_allTaught_136 rfl (lv_at hl 0 rfl) ?_
            refine g_iload_n G dX6_allTaught_137 rfl (lv_at hl 1 rfl) ?_
            refine g_aload_n G dX6_allTaught_138 rfl (lv_at hl 0 rfl) ?_
            refine mg_a X hM mf_56 dX6_allTaught_139 ?_
            refine g_iload_n G dX6_allTaught_142 rfl (lv_at hl 1 rfl) ?_
            obtain ⟨b2, hf⟩ := ck_open hf
            refine m_iald X hM (mIs.of mf_56) b2 dX6_allTaught_143 ?_
            refine g_aload_n G dX6_allTaught_144 rfl (lv_at hl 0 rfl) ?_
            refine mg_a X hM mf_57 dX6_allTaught_145 ?_
            refine g_iload_n G dX6_allTaught_148 rfl (lv_at hl 1 rfl) ?_
            obtain ⟨b3, hf⟩ := ck_open hf
            refine m_iald X hM (mIs.of mf_57) b3 dX6_allTaught_149 ?_
            obtain ⟨z5, h2, hf⟩ := bnv_open hf
            refine m_callVv (As := [.int x1, .int (mA z3 56 (Int32.toNatClampNeg x1)), .int (mA z3 57 (Int32.toNatClampNeg x1))]) (rest := []) X hM hl mc_makes (c_makes h2) rfl (Nat.le_of_ble_eq_true rfl) (Nat.le_of_ble_eq_true rfl) rfl dX6_allTaught_150 (fun H locs hM => ?_)
            exact J153 _ _ _ hf hM ls (lv_sub hl [0, 1] rfl)
    exact L118 FU _ _ _ _ hf hM ls (lv_sub hl [1, 0] rfl)
  have L2 : ∀ (n : Nat) (x2 : Int32) (z6 : MS) (H : Heap) (locs : List Loc), fx (m_allTaught_L2 a1 k116) (fun _ _ => none) n x2 z6 = some z' → MI D o ad H0 z6 H locs → ∀ ls : Array Slot, lv_has ls 5 [(0, .ref o), (1, .int a1), (2, .int x2)] → Z H locs 0 0 (F0 m 2 ls []) := by
    intro n
    induction n with
    | zero => intro x2 z6 H locs hf; exact absurd hf (by intro q; cases q)
    | succ n ih2 =>
      intro x2 z6 H locs hf hM ls hl
      rw [fx_s] at hf
      generalize fx (m_allTaught_L2 a1 k116) (fun _ _ => none) n = s2 at hf ih2
      unfold m_allTaught_L2 at hf
      refine g_iload_n G dX6_allTaught_2 rfl (lv_at hl 2 rfl) ?_
      refine g_aload_n G dX6_allTaught_3 rfl (lv_at hl 0 rfl) ?_
      obtain ⟨r2, z7, h3, hf⟩ := bnd_open hf
      refine m_callVi (As := []) (rest := [.int x2]) X hM hl mc_personMany (c_personMany h3) rfl (Nat.le_of_ble_eq_true rfl) (Nat.le_of_ble_eq_true rfl) rfl dX6_allTaught_4 (fun H locs hM => ?_)
      refine g_icmp_ge (tgt := 116) G dX6_allTaught_7 rfl (fun c3 => ?_) (fun c3 => ?_)
      · have hf := it_pos c3 hf
        exact K116 _ _ _ hf hM ls (lv_sub hl [0] rfl)
      · have hf := it_neg c3 hf
        refine g_iload_n G dX6_allTaught_10 rfl (lv_at hl 1 rfl) ?_
        refine g_iload_n G dX6_allTaught_11 rfl (lv_at hl 2 rfl) ?_
        refine g_ishr G dX6_allTaught_12 ?_
        refine g_iconst (v := 1) G dX6_allTaught_13 rfl ?_
        refine g_iand G dX6_allTaught_14 ?_
        refine g_iconst (v := 1) G dX6_allTaught_15 rfl ?_
        obtain ⟨j28, hj28, hf⟩ := jn_open hf
        have J28 : ∀ (x3 : Int32) (z8 : MS) (H : Heap) (locs : List Loc), j28 x3 z8 = some z' → MI D o ad H0 z8 H locs → ∀ ls : Array Slot, lv_has ls 5 [(0, .ref o), (1, .int a1), (2, .int x2)] → Z H locs 0 0 (F0 m 28 ls [.int x3]) := by
          intro x3 z8 H locs hf hM ls hl
          rw [hj28] at hf
          refine g_istore_n (lv' := [(3, .int x3), (0, .ref o), (1, .int a1), (2, .int x2)]) G dX6_allTaught_28 rfl hl (Nat.le_of_ble_eq_true rfl) rfl (fun ls hl => ?_)
          refine g_aload_n G dX6_allTaught_29 rfl (lv_at hl 1 rfl) ?_
          refine mg_a X hM mf_56 dX6_allTaught_30 ?_
          refine g_iload_n G dX6_allTaught_33 rfl (lv_at hl 3 rfl) ?_
          refine g_iload_n G dX6_allTaught_34 rfl (lv_at hl 0 rfl) ?_
          obtain ⟨b4, hf⟩ := ck_open hf
          obtain ⟨z9, hz9, hf⟩ := nm_open hf
          refine m_iast X hM (mIs.of mf_56) b4 hz9 dX6_allTaught_35 (fun H locs hM => ?_)
          refine g_iload_n G dX6_allTaught_36 rfl (lv_at hl 0 rfl) ?_
          refine g_iconst (v := (-1)) G dX6_allTaught_37 rfl ?_
          obtain ⟨j110, hj110, hf⟩ := jn_open hf
          have J110 : ∀ (z10 : MS) (H : Heap) (locs : List Loc), j110 z10 = some z' → MI D o ad H0 z10 H locs → ∀ ls : Array Slot, lv_has ls 5 [(0, .ref o), (1, .int a1), (2, .int x2)] → Z H locs 0 0 (F0 m 110 ls []) := by
            intro z10 H locs hf hM ls hl
            rw [hj110] at hf
            refine g_iinc (v := x2 + 1) (lv' := [(2, .int (x2 + 1)), (0, .ref o), (1, .int a1)]) G dX6_allTaught_110 hl (k := 2) rfl rfl (Nat.le_of_ble_eq_true rfl) rfl (fun ls hl => ?_)
            refine g_goto (tgt := 2) G dX6_allTaught_113 rfl ?_
            exact ih2 _ _ _ _ hf hM ls (lv_sub hl [1, 2, 0] rfl)
          refine g_icmp_ne (tgt := 44) G dX6_allTaught_38 rfl (fun c4 => ?_) (fun c4 => ?_)
          · have hf := it_neg c4 hf
            refine g_aload_n G dX6_allTaught_44 rfl (lv_at hl 1 rfl) ?_
            refine g_iload_n G dX6_allTaught_45 rfl (lv_at hl 3 rfl) ?_
            refine g_iload_n G dX6_allTaught_46 rfl (lv_at hl 0 rfl) ?_
            obtain ⟨r3, z11, h4, hf⟩ := bnd_open hf
            refine m_callVi (As := [.int x2, .int x3]) (rest := []) X hM hl mc_isOf (c_isOf h4) rfl (Nat.le_of_ble_eq_true rfl) (Nat.le_of_ble_eq_true rfl) rfl dX6_allTaught_47 (fun H locs hM => ?_)
            obtain ⟨j92, hj92, hf⟩ := jn_open hf
            have J92 : ∀ (x4 : Bool) (z12 : MS) (H : Heap) (locs : List Loc), j92 x4 z12 = some z' → MI D o ad H0 z12 H locs → ∀ ls : Array Slot, lv_has ls 5 [(0, .ref o), (1, .int a1), (2, .int x2)] → Z H locs 0 0 (F0 m 92 ls [.int (bI x4)]) := by
              intro x4 z12 H locs hf hM ls hl
              rw [hj92] at hf
              refine g_istore (lv' := [(4, .int (bI x4)), (0, .ref o), (1, .int a1), (2, .int x2)]) G dX6_allTaught_92 hl (Nat.le_of_ble_eq_true rfl) rfl (fun ls hl => ?_)
              refine g_aload_n G dX6_allTaught_94 rfl (lv_at hl 1 rfl) ?_
              refine mg_a X hM mf_57 dX6_allTaught_95 ?_
              refine g_iload_n G dX6_allTaught_98 rfl (lv_at hl 3 rfl) ?_
              refine g_iload G dX6_allTaught_99 (lv_at hl 0 rfl) ?_
              obtain ⟨j109, hj109, hf⟩ := jn_open hf
              have J109 : ∀ (x5 : Int32) (z13 : MS) (H : Heap) (locs : List Loc), j109 x5 z13 = some z' → MI D o ad H0 z13 H locs → ∀ ls : Array Slot, lv_has ls 5 [(0, .ref o), (1, .int a1), (2, .int x2)] → Z H locs 0 0 (F0 m 109 ls [.int x5, .int x2, .ref (ad 57)]) := by
                intro x5 z13 H locs hf hM ls hl
                rw [hj109] at hf
                obtain ⟨b5, hf⟩ := ck_open hf
                obtain ⟨z14, hz14, hf⟩ := nm_open hf
                refine m_iast X hM (mIs.of mf_57) b5 hz14 dX6_allTaught_109 (fun H locs hM => ?_)
                exact J110 _ _ _ hf hM ls (lv_sub hl [0, 1, 2] rfl)
              refine g_if_eq (tgt := 108) G dX6_allTaught_101 rfl (fun c5 => ?_) (fun c5 => ?_)
              · have hf := it_pos c5 hf
                refine g_iconst (v := 1) G dX6_allTaught_108 rfl ?_
                exact J109 _ _ _ _ hf hM ls (lv_sub hl [1, 2, 3] rfl)
              · have hf := it_neg c5 hf
                refine g_iconst (v := 2) G dX6_allTaught_104 rfl ?_
                refine g_goto (tgt := 109) G dX6_allTaught_105 rfl ?_
                exact J109 _ _ _ _ hf hM ls (lv_sub hl [1, 2, 3] rfl)
            obtain ⟨j91, hj91, hf⟩ := jn_open hf
            have J91 : ∀ (z15 : MS) (H : Heap) (locs : List Loc), j91 z15 = some z' → MI D o ad H0 z15 H locs → ∀ ls : Array Slot, lv_has ls 5 [(0, .ref o), (1, .int a1), (2, .int x2)] → Z H locs 0 0 (F0 m 91 ls []) := by
              intro z15 H locs hf hM ls hl
              rw [hj91] at hf
              refine g_iconst (v := 0) G dX6_allTaught_91 rfl ?_
              exact J92 _ _ _ _ hf hM ls (lv_sub hl [0, 1, 2] rfl)
            refine g_if_ne (tgt := 91) G dX6_allTaught_50 rfl (fun c6 => ?_) (fun c6 => ?_)
            · have hf := it_neg c6 hf
              exact J91 _ _ _ hf hM ls (lv_sub hl [1, 2, 3] rfl)
            · have hf := it_pos c6 hf
              refine g_aload_n G dX6_allTaught_53 rfl (lv_at hl 1 rfl) ?_
              refine g_aload_n G dX6_allTaught_54 rfl (lv_at hl 1 rfl) ?_
              refine g_iload_n G dX6_allTaught_55 rfl (lv_at hl 3 rfl) ?_
              obtain ⟨r4, z16, h5, hf⟩ := bnd_open hf
              refine m_callVi (As := [.int x2]) (rest := [.ref o]) X hM hl mc_masterOf (c_masterOf h5) rfl (Nat.le_of_ble_eq_true rfl) (Nat.le_of_ble_eq_true rfl) rfl dX6_allTaught_56 (fun H locs hM => ?_)
              refine g_iload_n G dX6_allTaught_59 rfl (lv_at hl 0 rfl) ?_
              obtain ⟨r5, z17, h6, hf⟩ := bnd_open hf
              refine m_callVi (As := [.int r4, .int x3]) (rest := []) X hM hl mc_isOf (c_isOf h6) rfl (Nat.le_of_ble_eq_true rfl) (Nat.le_of_ble_eq_true rfl) rfl dX6_allTaught_60 (fun H locs hM => ?_)
              refine g_iconst (v := 2) G dX6_allTaught_63 rfl ?_
              obtain ⟨j87, hj87, hf⟩ := jn_open hf
              have J87 : ∀ (z18 : MS) (H : Heap) (locs : List Loc), j87 z18 = some z' → MI D o ad H0 z18 H locs → ∀ ls : Array Slot, lv_has ls 5 [(0, .ref o), (1, .int a1), (2, .int x2)] → Z H locs 0 0 (F0 m 87 ls []) := by
                intro z18 H locs hf hM ls hl
                rw [hj87] at hf
                refine g_iconst (v := 1) G dX6_allTaught_87 rfl ?_
                refine g_goto (tgt := 92) G dX6_allTaught_88 rfl ?_
                exact J92 _ _ _ _ hf hM ls (lv_sub hl [0, 1, 2] rfl)
              refine g_icmp_eq (tgt := 87) G dX6_allTaught_64 rfl (fun c7 => ?_) (fun c7 => ?_)
              · have hf := it_pos c7 hf
                exact J87 _ _ _ hf hM ls (lv_sub hl [1, 2, 3] rfl)
              · have hf := it_neg c7 hf
                refine g_aload_n G dX6_allTaught_67 rfl (lv_at hl 1 rfl) ?_
                refine mg_a X hM mf_47 dX6_allTaught_68 ?_
                refine g_iconst (v := 4) G dX6_allTaught_71 rfl ?_
                refine m_iald X hM (mIs.of mf_47) (by decide) dX6_allTaught_72 ?_
                refine g_iconst (v := (-1)) G dX6_allTaught_73 rfl ?_
                refine g_icmp_eq (tgt := 91) G dX6_allTaught_74 rfl (fun c8 => ?_) (fun c8 => ?_)
                · have hf := it_pos c8 hf
                  exact J91 _ _ _ hf hM ls (lv_sub hl [1, 2, 3] rfl)
                · have hf := it_neg c8 hf
                  refine g_aload_n G dX6_allTaught_77 rfl (lv_at hl 1 rfl) ?_
                  refine g_iconst (v := 1) G dX6_allTaught_78 rfl ?_
                  refine g_iload_n G dX6_allTaught_79 rfl (lv_at hl 3 rfl) ?_
                  refine g_iload_n G dX6_allTaught_80 rfl (lv_at hl 0 rfl) ?_
                  obtain ⟨r6, z19, h7, hf⟩ := bnd_open hf
                  refine m_callVi (As := [.int 1, .int x2, .int x3]) (rest := []) X hM hl mc_holds (c_holds h7) rfl (Nat.le_of_ble_eq_true rfl) (Nat.le_of_ble_eq_true rfl) rfl dX6_allTaught_81 (fun H locs hM => ?_)
                  refine g_if_eq (tgt := 91) G dX6_allTaught_84 rfl (fun c9 => ?_) (fun c9 => ?_)
                  · have hf := it_pos c9 hf
                    exact J91 _ _ _ hf hM ls (lv_sub hl [1, 2, 3] rfl)
                  · have hf := it_neg c9 hf
                    exact J87 _ _ _ hf hM ls (lv_sub hl [1, 2, 3] rfl)
          · have hf := it_pos c4 hf
            refine g_goto (tgt := 110) G dX6_allTaught_41 rfl ?_
            exact J110 _ _ _ hf hM ls (lv_sub hl [1, 2, 3] rfl)
        refine g_icmp_ne (tgt := 23) G dX6_allTaught_16 rfl (fun c10 => ?_) (fun c10 => ?_)
        · have hf := it_neg c10 hf
          refine g_aload_n G dX6_allTaught_23 rfl (lv_at hl 0 rfl) ?_
          refine g_iload_n G dX6_allTaught_24 rfl (lv_at hl 2 rfl) ?_
          obtain ⟨r7, z20, h8, hf⟩ := bnd_open hf
          refine m_callVi (As := [.int x2]) (rest := []) X hM hl mc_taughtNext (c_taughtNext h8) rfl (Nat.le_of_ble_eq_true rfl) (Nat.le_of_ble_eq_true rfl) rfl dX6_allTaught_25 (fun H locs hM => ?_)
          exact J28 _ _ _ _ hf hM ls (lv_sub hl [0, 1, 2] rfl)
        · have hf := it_pos c10 hf
          refine g_iconst (v := (-1)) G dX6_allTaught_19 rfl ?_
          refine g_goto (tgt := 28) G dX6_allTaught_20 rfl ?_
          exact J28 _ _ _ _ hf hM ls (lv_sub hl [0, 1, 2] rfl)
  exact L2 FU _ _ _ _ hf hM ls (lv_sub hl [1, 2, 0] rfl)
theorem mc_isKept : mcV yX6_isKept cX6_isKept 4 (none) 2 462 := ⟨lw_V q2297 q2299 qs125 q157 q2300, ⟨rfl, by decide +kernel, by decide +kernel, by decide +kernel⟩, Nat.le_of_ble_eq_true rfl⟩
noncomputable def m_isKept_L23 (k50 : MS → Option (MS)) (s23 : Int32 → MS → Option (MS)) (x1 : Int32) (z7 : MS) : Option (MS) :=
  if 129 ≤ x1 then
    k50 z7
  else
    ck (inb (x1 + 3) (mN 53)) <|
    ck (inb x1 (mN 53)) <|
    nm (wA z7 53 (Int32.toNatClampNeg x1) (mA z7 53 (Int32.toNatClampNeg (x1 + 3)))) fun z8 =>
    s23 (x1 + 1) z8
noncomputable def m_isKept (a1 : Int32) (a2 : Int32) (z : MS) : Option (MS) :=
  if (mI z 58) = 0 then
    jn (fun (z1 : MS) =>
      ck (inb ((42 + (3 * (mA z1 53 (Int32.toNatClampNeg 41)))) - 3) (mN 53)) <|
      nm (wA z1 53 (Int32.toNatClampNeg ((42 + (3 * (mA z1 53 (Int32.toNatClampNeg 41)))) - 3)) (mA z1 53 (Int32.toNatClampNeg 0))) fun z2 =>
      ck (inb (((42 + (3 * (mA z1 53 (Int32.toNatClampNeg 41)))) - 3) + 1) (mN 53)) <|
      nm (wA z2 53 (Int32.toNatClampNeg (((42 + (3 * (mA z1 53 (Int32.toNatClampNeg 41)))) - 3) + 1)) a1) fun z3 =>
      ck (inb (((42 + (3 * (mA z1 53 (Int32.toNatClampNeg 41)))) - 3) + 2) (mN 53)) <|
      nm (wA z3 53 (Int32.toNatClampNeg (((42 + (3 * (mA z1 53 (Int32.toNatClampNeg 41)))) - 3) + 2)) a2) fun z4 =>
      some z4) fun j64 =>
    if (mA z 53 (Int32.toNatClampNeg 41)) = 30 then
      jn (fun (z6 : MS) =>
        j64 z6) fun k50 =>
      fx (m_isKept_L23 k50) (fun _ _ => none) FU 42 z
    else
      nm (wA z 53 (Int32.toNatClampNeg 41) ((mA z 53 (Int32.toNatClampNeg 41)) + 1)) fun z5 =>
      j64 z5
  else
    some z
set_option maxHeartbeats 1000000 in
theorem c_isKept {l : Launch} {D : MD} {o : Nat} {ad : Nat → Nat} {a1 : Int32} {a2 : Int32} {z z' : MS} (hf : m_isKept a1 a2 z = some z') : MMet l D o ad yX6_isKept cX6_isKept 4 (none) 1 [.ref o, .int a1, .int a2] z z' (none) := by
  unfold m_isKept at hf
  refine m_head pnX6 rfl (Nat.le_of_ble_eq_true rfl) (fun m Z H0 ls X hM hl => ?_)
  have G := X.g
  have hl : lv_has ls 4 [(0, .ref o), (1, .int a1), (2, .int a2)] := hl
  refine g_aload_n G dX6_isKept_0 rfl (lv_at hl 0 rfl) ?_
  refine mg_z X hM mf_58 dX6_isKept_1 ?_
  refine g_if_eq (tgt := 8) G dX6_isKept_4 rfl (fun c1 => ?_) (fun c1 => ?_)
  · have hf := it_pos c1 hf
    refine g_aload_n G dX6_isKept_8 rfl (lv_at hl 0 rfl) ?_
    refine mg_a X hM mf_53 dX6_isKept_9 ?_
    refine g_bipush (v := 41) G dX6_isKept_12 rfl ?_
    refine m_iald X hM (mIs.of mf_53) (by decide) dX6_isKept_14 ?_
    refine g_bipush (v := 30) G dX6_isKept_15 rfl ?_
    obtain ⟨j64, hj64, hf⟩ := jn_open hf
    have J64 : ∀ (z1 : MS) (H : Heap) (locs : List Loc), j64 z1 = some z' → MI D o ad H0 z1 H locs → ∀ ls : Array Slot, lv_has ls 4 [(0, .ref o), (1, .int a1), (2, .int a2)] → Z H locs 0 0 (F0 m 64 ls []) := by
      intro z1 H locs hf hM ls hl
      rw [hj64] at hf
      refine g_bipush (v := 42) G dX6_isKept_64 rfl ?_
      refine g_iconst (v := 3) G dX6_isKept_66 rfl ?_
      refine g_aload_n G dX6_isKept_67 rfl (lv_at hl 0 rfl) ?_
      refine mg_a X hM mf_53 dX6_isKept_68 ?_
      refine g_bipush (v := 41) G dX6_isKept_71 rfl ?_
      refine m_iald X hM (mIs.of mf_53) (by decide) dX6_isKept_73 ?_
      refine g_imul G dX6_isKept_74 ?_
      refine g_iadd G dX6_isKept_75 ?_
      refine g_iconst (v := 3) G dX6_isKept_76 rfl ?_
      refine g_isub G dX6_isKept_77 ?_
      refine g_istore_n (lv' := [(3, .int ((42 + (3 * (mA z1 53 (Int32.toNatClampNeg 41)))) - 3)), (0, .ref o), (1, .int a1), (2, .int a2)]) G dX6_isKept_78 rfl hl (Nat.le_of_ble_eq_true rfl) rfl (fun ls hl => ?_)
      refine g_aload_n G dX6_isKept_79 rfl (lv_at hl 1 rfl) ?_
      refine mg_a X hM mf_53 dX6_isKept_80 ?_
      refine g_iload_n G dX6_isKept_83 rfl (lv_at hl 0 rfl) ?_
      refine g_aload_n G dX6_isKept_84 rfl (lv_at hl 1 rfl) ?_
      refine mg_a X hM mf_53 dX6_isKept_85 ?_
      refine g_iconst (v := 0) G dX6_isKept_88 rfl ?_
      refine m_iald X hM (mIs.of mf_53) (by decide) dX6_isKept_89 ?_
      obtain ⟨b1, hf⟩ := ck_open hf
      obtain ⟨z2, hz2, hf⟩ := nm_open hf
      refine m_iast X hM (mIs.of mf_53) b1 hz2 dX6_isKept_90 (fun H locs hM => ?_)
      refine g_aload_n G dX6_isKept_91 rfl (lv_at hl 1 rfl) ?_
      refine mg_a X hM mf_53 dX6_isKept_92 ?_
      refine g_iload_n G dX6_isKept_95 rfl (lv_at hl 0 rfl) ?_
      refine g_iconst (v := 1) G dX6_isKept_96 rfl ?_
      refine g_iadd G dX6_isKept_97 ?_
      refine g_iload_n G dX6_isKept_98 rfl (lv_at hl 2 rfl) ?_
      obtain ⟨b2, hf⟩ := ck_open hf
      obtain ⟨z3, hz3, hf⟩ := nm_open hf
      refine m_iast X hM (mIs.of mf_53) b2 hz3 dX6_isKept_99 (fun H locs hM => ?_)
      refine g_aload_n G dX6_isKept_100 rfl (lv_at hl 1 rfl) ?_
      refine mg_a X hM mf_53 dX6_isKept_101 ?_
      refine g_iload_n G dX6_isKept_104 rfl (lv_at hl 0 rfl) ?_
      refine g_iconst (v := 2) G dX6_isKept_105 rfl ?_
      refine g_iadd G dX6_isKept_106 ?_
      refine g_iload_n G dX6_isKept_107 rfl (lv_at hl 3 rfl) ?_
      obtain ⟨b3, hf⟩ := ck_open hf
      obtain ⟨z4, hz4, hf⟩ := nm_open hf
      refine m_iast X hM (mIs.of mf_53) b3 hz4 dX6_isKept_108 (fun H locs hM => ?_)
      exact m_vret X hM hf dX6_isKept_109
    refine g_icmp_ne (tgt := 53) G dX6_isKept_17 rfl (fun c2 => ?_) (fun c2 => ?_)
    · have hf := it_neg c2 hf
      refine g_aload_n G dX6_isKept_53 rfl (lv_at hl 0 rfl) ?_
      refine mg_a X hM mf_53 dX6_isKept_54 ?_
      refine g_bipush (v := 41) G dX6_isKept_57 rfl ?_
      refine g_dup2_11 G dX6_isKept_59 rfl rfl ?_
      refine m_iald X hM (mIs.of mf_53) (by decide) dX6_isKept_60 ?_
      refine g_iconst (v := 1) G dX6_isKept_61 rfl ?_
      refine g_iadd G dX6_isKept_62 ?_
      obtain ⟨z5, hz5, hf⟩ := nm_open hf
      refine m_iast X hM (mIs.of mf_53) (by decide) hz5 dX6_isKept_63 (fun H locs hM => ?_)
      exact J64 _ _ _ hf hM ls (lv_sub hl [0, 1, 2] rfl)
    · have hf := it_pos c2 hf
      refine g_bipush (v := 42) G dX6_isKept_20 rfl ?_
      refine g_istore_n (lv' := [(3, .int 42), (0, .ref o), (1, .int a1), (2, .int a2)]) G dX6_isKept_22 rfl hl (Nat.le_of_ble_eq_true rfl) rfl (fun ls hl => ?_)
      obtain ⟨k50, hk50, hf⟩ := jn_open hf
      have K50 : ∀ (z6 : MS) (H : Heap) (locs : List Loc), k50 z6 = some z' → MI D o ad H0 z6 H locs → ∀ ls : Array Slot, lv_has ls 4 [(0, .ref o), (1, .int a1), (2, .int a2)] → Z H locs 0 0 (F0 m 50 ls []) := by
        intro z6 H locs hf hM ls hl
        rw [hk50] at hf
        refine g_goto (tgt := 64) G dX6_isKept_50 rfl ?_
        exact J64 _ _ _ hf hM ls (lv_sub hl [0, 1, 2] rfl)
      have L23 : ∀ (n : Nat) (x1 : Int32) (z7 : MS) (H : Heap) (locs : List Loc), fx (m_isKept_L23 k50) (fun _ _ => none) n x1 z7 = some z' → MI D o ad H0 z7 H locs → ∀ ls : Array Slot, lv_has ls 4 [(0, .ref o), (1, .int a1), (2, .int a2), (3, .int x1)] → Z H locs 0 0 (F0 m 23 ls []) := by
        intro n
        induction n with
        | zero => intro x1 z7 H locs hf; exact absurd hf (by intro q; cases q)
        | succ n ih23 =>
          intro x1 z7 H locs hf hM ls hl
          rw [fx_s] at hf
          generalize fx (m_isKept_L23 k50) (fun _ _ => none) n = s23 at hf ih23
          unfold m_isKept_L23 at hf
          refine g_iload_n G dX6_isKept_23 rfl (lv_at hl 3 rfl) ?_
          refine g_sipush (v := 129) G dX6_isKept_24 rfl ?_
          refine g_icmp_ge (tgt := 50) G dX6_isKept_27 rfl (fun c3 => ?_) (fun c3 => ?_)
          · have hf := it_pos c3 hf
            exact K50 _ _ _ hf hM ls (lv_sub hl [0, 1, 2] rfl)
          · have hf := it_neg c3 hf
            refine g_aload_n G dX6_isKept_30 rfl (lv_at hl 0 rfl) ?_
            refine mg_a X hM mf_53 dX6_isKept_31 ?_
            refine g_iload_n G dX6_isKept_34 rfl (lv_at hl 3 rfl) ?_
            refine g_aload_n G dX6_isKept_35 rfl (lv_at hl 0 rfl) ?_
            refine mg_a X hM mf_53 dX6_isKept_36 ?_
            refine g_iload_n G dX6_isKept_39 rfl (lv_at hl 3 rfl) ?_
            refine g_iconst (v := 3) G dX6_isKept_40 rfl ?_
            refine g_iadd G dX6_isKept_41 ?_
            obtain ⟨b4, hf⟩ := ck_open hf
            refine m_iald X hM (mIs.of mf_53) b4 dX6_isKept_42 ?_
            obtain ⟨b5, hf⟩ := ck_open hf
            obtain ⟨z8, hz8, hf⟩ := nm_open hf
            refine m_iast X hM (mIs.of mf_53) b5 hz8 dX6_isKept_43 (fun H locs hM => ?_)
            refine g_iinc (v := x1 + 1) (lv' := [(3, .int (x1 + 1)), (0, .ref o), (1, .int a1), (2, .int a2)]) G dX6_isKept_44 hl (k := 3) rfl rfl (Nat.le_of_ble_eq_true rfl) rfl (fun ls hl => ?_)
            refine g_goto (tgt := 23) G dX6_isKept_47 rfl ?_
            exact ih23 _ _ _ _ hf hM ls (lv_sub hl [1, 2, 3, 0] rfl)
      exact L23 FU _ _ _ _ hf hM ls (lv_sub hl [1, 2, 3, 0] rfl)
  · have hf := it_neg c1 hf
    exact m_vret X hM hf dX6_isKept_7
theorem mc_sitsFor : mcV yX6_sitsFor cX6_sitsFor 2 (none) 1 468 := ⟨lw_V q2289 q2291 qs123 q157 q2292, ⟨rfl, by decide +kernel, by decide +kernel, by decide +kernel⟩, Nat.le_of_ble_eq_true rfl⟩
noncomputable def m_sitsFor (a1 : Int32) (z : MS) : Option (MS) :=
  bnd (m_hasPassed a1 z) fun r1 z1 =>
  if (bI r1) = 0 then
    bnd (m_leftOf a1 z1) fun r2 z2 =>
    if r2 = 0 then
      some z2
    else
      jn (fun (z3 : MS) =>
        bnd (m_marksOf a1 z3) fun r3 z4 =>
        if (mA z4 46 (Int32.toNatClampNeg 3)) ≤ r3 then
          bnv (m_becomes a1 1 z4) fun z5 =>
          nm (wI z5 59 ((mI z5 59) + 1)) fun z6 =>
          bnv (m_isKept a1 1 z6) fun z7 =>
          some z7
        else
          ck (inb ((1 + (5 * a1)) + 3) (mN 53)) <|
          ck (inb ((1 + (5 * a1)) + 3) (mN 53)) <|
          nm (wA z4 53 (Int32.toNatClampNeg ((1 + (5 * a1)) + 3)) ((mA z4 53 (Int32.toNatClampNeg ((1 + (5 * a1)) + 3))) - 1)) fun z8 =>
          some z8) fun j37 =>
      if (mA z2 47 (Int32.toNatClampNeg 5)) = (-1) then
        j37 z2
      else
        bnd (m_holds 2 a1 0 z2) fun r4 z9 =>
        if (bI r4) = 0 then
          some z9
        else
          j37 z9
  else
    some z1
set_option maxHeartbeats 1000000 in
theorem c_sitsFor {l : Launch} {D : MD} {o : Nat} {ad : Nat → Nat} {a1 : Int32} {z z' : MS} (hf : m_sitsFor a1 z = some z') : MMet l D o ad yX6_sitsFor cX6_sitsFor 2 (none) 5 [.ref o, .int a1] z z' (none) := by
  unfold m_sitsFor at hf
  refine m_head pnX6 rfl (Nat.le_of_ble_eq_true rfl) (fun m Z H0 ls X hM hl => ?_)
  have G := X.g
  have hl : lv_has ls 2 [(0, .ref o), (1, .int a1)] := hl
  refine g_aload_n G dX6_sitsFor_0 rfl (lv_at hl 0 rfl) ?_
  refine g_iload_n G dX6_sitsFor_1 rfl (lv_at hl 1 rfl) ?_
  obtain ⟨r1, z1, h1, hf⟩ := bnd_open hf
  refine m_callVi (As := [.int a1]) (rest := []) X hM hl mc_hasPassed (c_hasPassed h1) rfl (Nat.le_of_ble_eq_true rfl) (Nat.le_of_ble_eq_true rfl) rfl dX6_sitsFor_2 (fun H locs hM => ?_)
  refine g_if_ne (tgt := 36) G dX6_sitsFor_5 rfl (fun c1 => ?_) (fun c1 => ?_)
  · have hf := it_neg c1 hf
    exact m_vret X hM hf dX6_sitsFor_36
  · have hf := it_pos c1 hf
    refine g_aload_n G dX6_sitsFor_8 rfl (lv_at hl 0 rfl) ?_
    refine g_iload_n G dX6_sitsFor_9 rfl (lv_at hl 1 rfl) ?_
    obtain ⟨r2, z2, h2, hf⟩ := bnd_open hf
    refine m_callVi (As := [.int a1]) (rest := []) X hM hl mc_leftOf (c_leftOf h2) rfl (Nat.le_of_ble_eq_true rfl) (Nat.le_of_ble_eq_true rfl) rfl dX6_sitsFor_10 (fun H locs hM => ?_)
    refine g_if_eq (tgt := 36) G dX6_sitsFor_13 rfl (fun c2 => ?_) (fun c2 => ?_)
    · have hf := it_pos c2 hf
      exact m_vret X hM hf dX6_sitsFor_36
    · have hf := it_neg c2 hf
      refine g_aload_n G dX6_sitsFor_16 rfl (lv_at hl 0 rfl) ?_
      refine mg_a X hM mf_47 dX6_sitsFor_17 ?_
      refine g_iconst (v := 5) G dX6_sitsFor_20 rfl ?_
      refine m_iald X hM (mIs.of mf_47) (by decide) dX6_sitsFor_21 ?_
      refine g_iconst (v := (-1)) G dX6_sitsFor_22 rfl ?_
      obtain ⟨j37, hj37, hf⟩ := jn_open hf
      have J37 : ∀ (z3 : MS) (H : Heap) (locs : List Loc), j37 z3 = some z' → MI D o ad H0 z3 H locs → ∀ ls : Array Slot, lv_has ls 2 [(0, .ref o), (1, .int a1)] → Z H locs 0 0 (F0 m 37 ls []) := by
        intro z3 H locs hf hM ls hl
        rw [hj37] at hf
        refine g_aload_n G dX6_sitsFor_37 rfl (lv_at hl 0 rfl) ?_
        refine g_iload_n G dX6_sitsFor_38 rfl (lv_at hl 1 rfl) ?_
        obtain ⟨r3, z4, h3, hf⟩ := bnd_open hf
        refine m_callVi (As := [.int a1]) (rest := []) X hM hl mc_marksOf (c_marksOf h3) rfl (Nat.le_of_ble_eq_true rfl) (Nat.le_of_ble_eq_true rfl) rfl dX6_sitsFor_39 (fun H locs hM => ?_)
        refine g_aload_n G dX6_sitsFor_42 rfl (lv_at hl 0 rfl) ?_
        refine mg_a X hM mf_46 dX6_sitsFor_43 ?_
        refine g_iconst (v := 3) G dX6_sitsFor_46 rfl ?_
        refine m_iald X hM (mIs.of mf_46) (by decide) dX6_sitsFor_47 ?_
        refine g_icmp_ge (tgt := 68) G dX6_sitsFor_48 rfl (fun c3 => ?_) (fun c3 => ?_)
        · have hf := it_pos c3 hf
          refine g_aload_n G dX6_sitsFor_68 rfl (lv_at hl 0 rfl) ?_
          refine g_iload_n G dX6_sitsFor_69 rfl (lv_at hl 1 rfl) ?_
          refine g_iconst (v := 1) G dX6_sitsFor_70 rfl ?_
          obtain ⟨z5, h4, hf⟩ := bnv_open hf
          refine m_callVv (As := [.int a1, .int 1]) (rest := []) X hM hl mc_becomes (c_becomes h4) rfl (Nat.le_of_ble_eq_true rfl) (Nat.le_of_ble_eq_true rfl) rfl dX6_sitsFor_71 (fun H locs hM => ?_)
          refine g_aload_n G dX6_sitsFor_74 rfl (lv_at hl 0 rfl) ?_
          refine g_dup G dX6_sitsFor_75 rfl ?_
          refine mg_i X hM mf_59 dX6_sitsFor_76 ?_
          refine g_iconst (v := 1) G dX6_sitsFor_79 rfl ?_
          refine g_iadd G dX6_sitsFor_80 ?_
          obtain ⟨z6, hz6, hf⟩ := nm_open hf
          refine mp_i X hM mf_59 hz6 dX6_sitsFor_81 (fun H locs hM => ?_)
          refine g_aload_n G dX6_sitsFor_84 rfl (lv_at hl 0 rfl) ?_
          refine g_iload_n G dX6_sitsFor_85 rfl (lv_at hl 1 rfl) ?_
          refine g_iconst (v := 1) G dX6_sitsFor_86 rfl ?_
          obtain ⟨z7, h5, hf⟩ := bnv_open hf
          refine m_callVv (As := [.int a1, .int 1]) (rest := []) X hM hl mc_isKept (c_isKept h5) rfl (Nat.le_of_ble_eq_true rfl) (Nat.le_of_ble_eq_true rfl) rfl dX6_sitsFor_87 (fun H locs hM => ?_)
          exact m_vret X hM hf dX6_sitsFor_90
        · have hf := it_neg c3 hf
          refine g_aload_n G dX6_sitsFor_51 rfl (lv_at hl 0 rfl) ?_
          refine mg_a X hM mf_53 dX6_sitsFor_52 ?_
          refine g_iconst (v := 1) G dX6_sitsFor_55 rfl ?_
          refine g_iconst (v := 5) G dX6_sitsFor_56 rfl ?_
          refine g_iload_n G dX6_sitsFor_57 rfl (lv_at hl 1 rfl) ?_
          refine g_imul G dX6_sitsFor_58 ?_
          refine g_iadd G dX6_sitsFor_59 ?_
          refine g_iconst (v := 3) G dX6_sitsFor_60 rfl ?_
          refine g_iadd G dX6_sitsFor_61 ?_
          refine g_dup2_11 G dX6_sitsFor_62 rfl rfl ?_
          obtain ⟨b1, hf⟩ := ck_open hf
          refine m_iald X hM (mIs.of mf_53) b1 dX6_sitsFor_63 ?_
          refine g_iconst (v := 1) G dX6_sitsFor_64 rfl ?_
          refine g_isub G dX6_sitsFor_65 ?_
          obtain ⟨b2, hf⟩ := ck_open hf
          obtain ⟨z8, hz8, hf⟩ := nm_open hf
          refine m_iast X hM (mIs.of mf_53) b2 hz8 dX6_sitsFor_66 (fun H locs hM => ?_)
          exact m_vret X hM hf dX6_sitsFor_67
      refine g_icmp_eq (tgt := 37) G dX6_sitsFor_23 rfl (fun c4 => ?_) (fun c4 => ?_)
      · have hf := it_pos c4 hf
        exact J37 _ _ _ hf hM ls (lv_sub hl [0, 1] rfl)
      · have hf := it_neg c4 hf
        refine g_aload_n G dX6_sitsFor_26 rfl (lv_at hl 0 rfl) ?_
        refine g_iconst (v := 2) G dX6_sitsFor_27 rfl ?_
        refine g_iload_n G dX6_sitsFor_28 rfl (lv_at hl 1 rfl) ?_
        refine g_iconst (v := 0) G dX6_sitsFor_29 rfl ?_
        obtain ⟨r4, z9, h6, hf⟩ := bnd_open hf
        refine m_callVi (As := [.int 2, .int a1, .int 0]) (rest := []) X hM hl mc_holds (c_holds h6) rfl (Nat.le_of_ble_eq_true rfl) (Nat.le_of_ble_eq_true rfl) rfl dX6_sitsFor_30 (fun H locs hM => ?_)
        refine g_if_ne (tgt := 37) G dX6_sitsFor_33 rfl (fun c5 => ?_) (fun c5 => ?_)
        · have hf := it_neg c5 hf
          exact J37 _ _ _ hf hM ls (lv_sub hl [0, 1] rfl)
        · have hf := it_pos c5 hf
          exact m_vret X hM hf dX6_sitsFor_36
theorem mc_isMastersMaster : mcV yX6_isMastersMaster cX6_isMastersMaster 3 (some .boolean) 1 474 := ⟨lw_V q2301 q2303 qs126 q157 q2304, ⟨rfl, by decide +kernel, by decide +kernel, by decide +kernel⟩, Nat.le_of_ble_eq_true rfl⟩
noncomputable def m_isMastersMaster_L2 (a1 : Int32) (s2 : Int32 → MS → Option (Bool × MS)) (x1 : Int32) (z1 : MS) : Option (Bool × MS) :=
  bnd (m_personMany z1) fun r1 z2 =>
  if r1 ≤ x1 then
    some (false, z2)
  else
    bnd (m_hasPassed x1 z2) fun r2 z3 =>
    jn (fun (z4 : MS) =>
      s2 (x1 + 1) z4) fun j42 =>
    if (bI r2) = 0 then
      j42 z3
    else
      bnd (m_masterOf x1 z3) fun r3 z5 =>
      if r3 = (-1) then
        j42 z5
      else
        bnd (m_masterOf x1 z5) fun r4 z6 =>
        bnd (m_masterOf r4 z6) fun r5 z7 =>
        if r5 = a1 then
          some (true, z7)
        else
          j42 z7
noncomputable def m_isMastersMaster (a1 : Int32) (z : MS) : Option (Bool × MS) :=
  fx (m_isMastersMaster_L2 a1) (fun _ _ => none) FU 0 z
set_option maxHeartbeats 1000000 in
theorem c_isMastersMaster {l : Launch} {D : MD} {o : Nat} {ad : Nat → Nat} {a1 : Int32} {z z' : MS} {r : Bool} (hf : m_isMastersMaster a1 z = some (r, z')) : MMet l D o ad yX6_isMastersMaster cX6_isMastersMaster 3 (some .boolean) 2 [.ref o, .int a1] z z' (some (.int (bI r))) := by
  unfold m_isMastersMaster at hf
  refine m_head pnX6 rfl (Nat.le_of_ble_eq_true rfl) (fun m Z H0 ls X hM hl => ?_)
  have G := X.g
  have hl : lv_has ls 3 [(0, .ref o), (1, .int a1)] := hl
  refine g_iconst (v := 0) G dX6_isMastersMaster_0 rfl ?_
  refine g_istore_n (lv' := [(2, .int 0), (0, .ref o), (1, .int a1)]) G dX6_isMastersMaster_1 rfl hl (Nat.le_of_ble_eq_true rfl) rfl (fun ls hl => ?_)
  have L2 : ∀ (n : Nat) (x1 : Int32) (z1 : MS) (H : Heap) (locs : List Loc), fx (m_isMastersMaster_L2 a1) (fun _ _ => none) n x1 z1 = some (r, z') → MI D o ad H0 z1 H locs → ∀ ls : Array Slot, lv_has ls 3 [(0, .ref o), (1, .int a1), (2, .int x1)] → Z H locs 0 0 (F0 m 2 ls []) := by
    intro n
    induction n with
    | zero => intro x1 z1 H locs hf; exact absurd hf (by intro q; cases q)
    | succ n ih2 =>
      intro x1 z1 H locs hf hM ls hl
      rw [fx_s] at hf
      generalize fx (m_isMastersMaster_L2 a1) (fun _ _ => none) n = s2 at hf ih2
      unfold m_isMastersMaster_L2 at hf
      refine g_iload_n G dX6_isMastersMaster_2 rfl (lv_at hl 2 rfl) ?_
      refine g_aload_n G dX6_isMastersMaster_3 rfl (lv_at hl 0 rfl) ?_
      obtain ⟨r1, z2, h1, hf⟩ := bnd_open hf
      refine m_callVi (As := []) (rest := [.int x1]) X hM hl mc_personMany (c_personMany h1) rfl (Nat.le_of_ble_eq_true rfl) (Nat.le_of_ble_eq_true rfl) rfl dX6_isMastersMaster_4 (fun H locs hM => ?_)
      refine g_icmp_ge (tgt := 48) G dX6_isMastersMaster_7 rfl (fun c1 => ?_) (fun c1 => ?_)
      · have hf := it_pos c1 hf
        refine g_iconst (v := 0) G dX6_isMastersMaster_48 rfl ?_
        exact m_zret X hM hf dX6_isMastersMaster_49
      · have hf := it_neg c1 hf
        refine g_aload_n G dX6_isMastersMaster_10 rfl (lv_at hl 0 rfl) ?_
        refine g_iload_n G dX6_isMastersMaster_11 rfl (lv_at hl 2 rfl) ?_
        obtain ⟨r2, z3, h2, hf⟩ := bnd_open hf
        refine m_callVi (As := [.int x1]) (rest := []) X hM hl mc_hasPassed (c_hasPassed h2) rfl (Nat.le_of_ble_eq_true rfl) (Nat.le_of_ble_eq_true rfl) rfl dX6_isMastersMaster_12 (fun H locs hM => ?_)
        obtain ⟨j42, hj42, hf⟩ := jn_open hf
        have J42 : ∀ (z4 : MS) (H : Heap) (locs : List Loc), j42 z4 = some (r, z') → MI D o ad H0 z4 H locs → ∀ ls : Array Slot, lv_has ls 3 [(0, .ref o), (1, .int a1), (2, .int x1)] → Z H locs 0 0 (F0 m 42 ls []) := by
          intro z4 H locs hf hM ls hl
          rw [hj42] at hf
          refine g_iinc (v := x1 + 1) (lv' := [(2, .int (x1 + 1)), (0, .ref o), (1, .int a1)]) G dX6_isMastersMaster_42 hl (k := 2) rfl rfl (Nat.le_of_ble_eq_true rfl) rfl (fun ls hl => ?_)
          refine g_goto (tgt := 2) G dX6_isMastersMaster_45 rfl ?_
          exact ih2 _ _ _ _ hf hM ls (lv_sub hl [1, 2, 0] rfl)
        refine g_if_eq (tgt := 42) G dX6_isMastersMaster_15 rfl (fun c2 => ?_) (fun c2 => ?_)
        · have hf := it_pos c2 hf
          exact J42 _ _ _ hf hM ls (lv_sub hl [0, 1, 2] rfl)
        · have hf := it_neg c2 hf
          refine g_aload_n G dX6_isMastersMaster_18 rfl (lv_at hl 0 rfl) ?_
          refine g_iload_n G dX6_isMastersMaster_19 rfl (lv_at hl 2 rfl) ?_
          obtain ⟨r3, z5, h3, hf⟩ := bnd_open hf
          refine m_callVi (As := [.int x1]) (rest := []) X hM hl mc_masterOf (c_masterOf h3) rfl (Nat.le_of_ble_eq_true rfl) (Nat.le_of_ble_eq_true rfl) rfl dX6_isMastersMaster_20 (fun H locs hM => ?_)
          refine g_iconst (v := (-1)) G dX6_isMastersMaster_23 rfl ?_
          refine g_icmp_eq (tgt := 42) G dX6_isMastersMaster_24 rfl (fun c3 => ?_) (fun c3 => ?_)
          · have hf := it_pos c3 hf
            exact J42 _ _ _ hf hM ls (lv_sub hl [0, 1, 2] rfl)
          · have hf := it_neg c3 hf
            refine g_aload_n G dX6_isMastersMaster_27 rfl (lv_at hl 0 rfl) ?_
            refine g_aload_n G dX6_isMastersMaster_28 rfl (lv_at hl 0 rfl) ?_
            refine g_iload_n G dX6_isMastersMaster_29 rfl (lv_at hl 2 rfl) ?_
            obtain ⟨r4, z6, h4, hf⟩ := bnd_open hf
            refine m_callVi (As := [.int x1]) (rest := [.ref o]) X hM hl mc_masterOf (c_masterOf h4) rfl (Nat.le_of_ble_eq_true rfl) (Nat.le_of_ble_eq_true rfl) rfl dX6_isMastersMaster_30 (fun H locs hM => ?_)
            obtain ⟨r5, z7, h5, hf⟩ := bnd_open hf
            refine m_callVi (As := [.int r4]) (rest := []) X hM hl mc_masterOf (c_masterOf h5) rfl (Nat.le_of_ble_eq_true rfl) (Nat.le_of_ble_eq_true rfl) rfl dX6_isMastersMaster_33 (fun H locs hM => ?_)
            refine g_iload_n G dX6_isMastersMaster_36 rfl (lv_at hl 1 rfl) ?_
            refine g_icmp_ne (tgt := 42) G dX6_isMastersMaster_37 rfl (fun c4 => ?_) (fun c4 => ?_)
            · have hf := it_neg c4 hf
              exact J42 _ _ _ hf hM ls (lv_sub hl [0, 1, 2] rfl)
            · have hf := it_pos c4 hf
              refine g_iconst (v := 1) G dX6_isMastersMaster_40 rfl ?_
              exact m_zret X hM hf dX6_isMastersMaster_41
  exact L2 FU _ _ _ _ hf hM ls (lv_sub hl [1, 2, 0] rfl)
theorem mc_yearGoes : mcV yX6_yearGoes cX6_yearGoes 3 (none) 1 477 := ⟨lw_V q2277 q2279 qs120 q157 q2280, ⟨rfl, by decide +kernel, by decide +kernel, by decide +kernel⟩, Nat.le_of_ble_eq_true rfl⟩
noncomputable def m_yearGoes_L36 (k78 : MS → Option (MS)) (s36 : Int32 → MS → Option (MS)) (x1 : Int32) (z5 : MS) : Option (MS) :=
  bnd (m_personMany z5) fun r1 z6 =>
  if r1 ≤ x1 then
    k78 z6
  else
    bnd (m_isDoctor x1 z6) fun r2 z7 =>
    jn (fun (z8 : MS) =>
      s36 (x1 + 1) z8) fun j72 =>
    if (bI r2) = 0 then
      bnd (m_isMastersMaster x1 z7) fun r3 z9 =>
      if (bI r3) = 0 then
        j72 z9
      else
        bnv (m_becomes x1 2 z9) fun z10 =>
        bnv (m_isKept x1 2 z10) fun z11 =>
        j72 z11
    else
      j72 z7
noncomputable def m_yearGoes_L7 (a1 : Int32) (k34 : MS → Option (MS)) (s7 : Int32 → MS → Option (MS)) (x2 : Int32) (z12 : MS) : Option (MS) :=
  bnd (m_personMany z12) fun r4 z13 =>
  if r4 ≤ x2 then
    k34 z13
  else
    jn (fun (z14 : MS) =>
      s7 (x2 + 1) z14) fun j28 =>
    if ((a1 >>> (x2 &&& 31)) &&& 1) = 0 then
      bnv (m_sitsFor x2 z13) fun z15 =>
      j28 z15
    else
      j28 z13
noncomputable def m_yearGoes (a1 : Int32) (z : MS) : Option (MS) :=
  bnv (m_allTaught a1 z) fun z1 =>
  jn (fun (z2 : MS) =>
    jn (fun (z3 : MS) =>
      nm (wA z3 53 (Int32.toNatClampNeg 0) ((mA z3 53 (Int32.toNatClampNeg 0)) + 1)) fun z4 =>
      some z4) fun k78 =>
    fx (m_yearGoes_L36 k78) (fun _ _ => none) FU 0 z2) fun k34 =>
  fx (m_yearGoes_L7 a1 k34) (fun _ _ => none) FU 0 z1
set_option maxHeartbeats 1000000 in
theorem c_yearGoes {l : Launch} {D : MD} {o : Nat} {ad : Nat → Nat} {a1 : Int32} {z z' : MS} (hf : m_yearGoes a1 z = some z') : MMet l D o ad yX6_yearGoes cX6_yearGoes 3 (none) 7 [.ref o, .int a1] z z' (none) := by
  unfold m_yearGoes at hf
  refine m_head pnX6 rfl (Nat.le_of_ble_eq_true rfl) (fun m Z H0 ls X hM hl => ?_)
  have G := X.g
  have hl : lv_has ls 3 [(0, .ref o), (1, .int a1)] := hl
  refine g_aload_n G dX6_yearGoes_0 rfl (lv_at hl 0 rfl) ?_
  refine g_iload_n G dX6_yearGoes_1 rfl (lv_at hl 1 rfl) ?_
  obtain ⟨z1, h1, hf⟩ := bnv_open hf
  refine m_callVv (As := [.int a1]) (rest := []) X hM hl mc_allTaught (c_allTaught h1) rfl (Nat.le_of_ble_eq_true rfl) (Nat.le_of_ble_eq_true rfl) rfl dX6_yearGoes_2 (fun H locs hM => ?_)
  refine g_iconst (v := 0) G dX6_yearGoes_5 rfl ?_
  refine g_istore_n (lv' := [(2, .int 0), (0, .ref o), (1, .int a1)]) G dX6_yearGoes_6 rfl hl (Nat.le_of_ble_eq_true rfl) rfl (fun ls hl => ?_)
  obtain ⟨k34, hk34, hf⟩ := jn_open hf
  have K34 : ∀ (z2 : MS) (H : Heap) (locs : List Loc), k34 z2 = some z' → MI D o ad H0 z2 H locs → ∀ ls : Array Slot, lv_has ls 3 [(0, .ref o)] → Z H locs 0 0 (F0 m 34 ls []) := by
    intro z2 H locs hf hM ls hl
    rw [hk34] at hf
    refine g_iconst (v := 0) G dX6_yearGoes_34 rfl ?_
    refine g_istore_n (lv' := [(2, .int 0), (0, .ref o)]) G dX6_yearGoes_35 rfl hl (Nat.le_of_ble_eq_true rfl) rfl (fun ls hl => ?_)
    obtain ⟨k78, hk78, hf⟩ := jn_open hf
    have K78 : ∀ (z3 : MS) (H : Heap) (locs : List Loc), k78 z3 = some z' → MI D o ad H0 z3 H locs → ∀ ls : Array Slot, lv_has ls 3 [(0, .ref o)] → Z H locs 0 0 (F0 m 78 ls []) := by
      intro z3 H locs hf hM ls hl
      rw [hk78] at hf
      refine g_aload_n G dX6_yearGoes_78 rfl (lv_at hl 0 rfl) ?_
      refine mg_a X hM mf_53 dX6_yearGoes_79 ?_
      refine g_iconst (v := 0) G dX6_yearGoes_82 rfl ?_
      refine g_dup2_11 G dX6_yearGoes_83 rfl rfl ?_
      refine m_iald X hM (mIs.of mf_53) (by decide) dX6_yearGoes_84 ?_
      refine g_iconst (v := 1) G dX6_yearGoes_85 rfl ?_
      refine g_iadd G dX6_yearGoes_86 ?_
      obtain ⟨z4, hz4, hf⟩ := nm_open hf
      refine m_iast X hM (mIs.of mf_53) (by decide) hz4 dX6_yearGoes_87 (fun H locs hM => ?_)
      exact m_vret X hM hf dX6_yearGoes_88
    have L36 : ∀ (n : Nat) (x1 : Int32) (z5 : MS) (H : Heap) (locs : List Loc), fx (m_yearGoes_L36 k78) (fun _ _ => none) n x1 z5 = some z' → MI D o ad H0 z5 H locs → ∀ ls : Array Slot, lv_has ls 3 [(0, .ref o), (2, .int x1)] → Z H locs 0 0 (F0 m 36 ls []) := by
      intro n
      induction n with
      | zero => intro x1 z5 H locs hf; exact absurd hf (by intro q; cases q)
      | succ n ih36 =>
        intro x1 z5 H locs hf hM ls hl
        rw [fx_s] at hf
        generalize fx (m_yearGoes_L36 k78) (fun _ _ => none) n = s36 at hf ih36
        unfold m_yearGoes_L36 at hf
        refine g_iload_n G dX6_yearGoes_36 rfl (lv_at hl 1 rfl) ?_
        refine g_aload_n G dX6_yearGoes_37 rfl (lv_at hl 0 rfl) ?_
        obtain ⟨r1, z6, h2, hf⟩ := bnd_open hf
        refine m_callVi (As := []) (rest := [.int x1]) X hM hl mc_personMany (c_personMany h2) rfl (Nat.le_of_ble_eq_true rfl) (Nat.le_of_ble_eq_true rfl) rfl dX6_yearGoes_38 (fun H locs hM => ?_)
        refine g_icmp_ge (tgt := 78) G dX6_yearGoes_41 rfl (fun c1 => ?_) (fun c1 => ?_)
        · have hf := it_pos c1 hf
          exact K78 _ _ _ hf hM ls (lv_sub hl [0] rfl)
        · have hf := it_neg c1 hf
          refine g_aload_n G dX6_yearGoes_44 rfl (lv_at hl 0 rfl) ?_
          refine g_iload_n G dX6_yearGoes_45 rfl (lv_at hl 1 rfl) ?_
          obtain ⟨r2, z7, h3, hf⟩ := bnd_open hf
          refine m_callVi (As := [.int x1]) (rest := []) X hM hl mc_isDoctor (c_isDoctor h3) rfl (Nat.le_of_ble_eq_true rfl) (Nat.le_of_ble_eq_true rfl) rfl dX6_yearGoes_46 (fun H locs hM => ?_)
          obtain ⟨j72, hj72, hf⟩ := jn_open hf
          have J72 : ∀ (z8 : MS) (H : Heap) (locs : List Loc), j72 z8 = some z' → MI D o ad H0 z8 H locs → ∀ ls : Array Slot, lv_has ls 3 [(0, .ref o), (2, .int x1)] → Z H locs 0 0 (F0 m 72 ls []) := by
            intro z8 H locs hf hM ls hl
            rw [hj72] at hf
            refine g_iinc (v := x1 + 1) (lv' := [(2, .int (x1 + 1)), (0, .ref o)]) G dX6_yearGoes_72 hl (k := 1) rfl rfl (Nat.le_of_ble_eq_true rfl) rfl (fun ls hl => ?_)
            refine g_goto (tgt := 36) G dX6_yearGoes_75 rfl ?_
            exact ih36 _ _ _ _ hf hM ls (lv_sub hl [1, 0] rfl)
          refine g_if_ne (tgt := 72) G dX6_yearGoes_49 rfl (fun c2 => ?_) (fun c2 => ?_)
          · have hf := it_neg c2 hf
            exact J72 _ _ _ hf hM ls (lv_sub hl [0, 1] rfl)
          · have hf := it_pos c2 hf
            refine g_aload_n G dX6_yearGoes_52 rfl (lv_at hl 0 rfl) ?_
            refine g_iload_n G dX6_yearGoes_53 rfl (lv_at hl 1 rfl) ?_
            obtain ⟨r3, z9, h4, hf⟩ := bnd_open hf
            refine m_callVi (As := [.int x1]) (rest := []) X hM hl mc_isMastersMaster (c_isMastersMaster h4) rfl (Nat.le_of_ble_eq_true rfl) (Nat.le_of_ble_eq_true rfl) rfl dX6_yearGoes_54 (fun H locs hM => ?_)
            refine g_if_eq (tgt := 72) G dX6_yearGoes_57 rfl (fun c3 => ?_) (fun c3 => ?_)
            · have hf := it_pos c3 hf
              exact J72 _ _ _ hf hM ls (lv_sub hl [0, 1] rfl)
            · have hf := it_neg c3 hf
              refine g_aload_n G dX6_yearGoes_60 rfl (lv_at hl 0 rfl) ?_
              refine g_iload_n G dX6_yearGoes_61 rfl (lv_at hl 1 rfl) ?_
              refine g_iconst (v := 2) G dX6_yearGoes_62 rfl ?_
              obtain ⟨z10, h5, hf⟩ := bnv_open hf
              refine m_callVv (As := [.int x1, .int 2]) (rest := []) X hM hl mc_becomes (c_becomes h5) rfl (Nat.le_of_ble_eq_true rfl) (Nat.le_of_ble_eq_true rfl) rfl dX6_yearGoes_63 (fun H locs hM => ?_)
              refine g_aload_n G dX6_yearGoes_66 rfl (lv_at hl 0 rfl) ?_
              refine g_iload_n G dX6_yearGoes_67 rfl (lv_at hl 1 rfl) ?_
              refine g_iconst (v := 2) G dX6_yearGoes_68 rfl ?_
              obtain ⟨z11, h6, hf⟩ := bnv_open hf
              refine m_callVv (As := [.int x1, .int 2]) (rest := []) X hM hl mc_isKept (c_isKept h6) rfl (Nat.le_of_ble_eq_true rfl) (Nat.le_of_ble_eq_true rfl) rfl dX6_yearGoes_69 (fun H locs hM => ?_)
              exact J72 _ _ _ hf hM ls (lv_sub hl [0, 1] rfl)
    exact L36 FU _ _ _ _ hf hM ls (lv_sub hl [1, 0] rfl)
  have L7 : ∀ (n : Nat) (x2 : Int32) (z12 : MS) (H : Heap) (locs : List Loc), fx (m_yearGoes_L7 a1 k34) (fun _ _ => none) n x2 z12 = some z' → MI D o ad H0 z12 H locs → ∀ ls : Array Slot, lv_has ls 3 [(0, .ref o), (1, .int a1), (2, .int x2)] → Z H locs 0 0 (F0 m 7 ls []) := by
    intro n
    induction n with
    | zero => intro x2 z12 H locs hf; exact absurd hf (by intro q; cases q)
    | succ n ih7 =>
      intro x2 z12 H locs hf hM ls hl
      rw [fx_s] at hf
      generalize fx (m_yearGoes_L7 a1 k34) (fun _ _ => none) n = s7 at hf ih7
      unfold m_yearGoes_L7 at hf
      refine g_iload_n G dX6_yearGoes_7 rfl (lv_at hl 2 rfl) ?_
      refine g_aload_n G dX6_yearGoes_8 rfl (lv_at hl 0 rfl) ?_
      obtain ⟨r4, z13, h7, hf⟩ := bnd_open hf
      refine m_callVi (As := []) (rest := [.int x2]) X hM hl mc_personMany (c_personMany h7) rfl (Nat.le_of_ble_eq_true rfl) (Nat.le_of_ble_eq_true rfl) rfl dX6_yearGoes_9 (fun H locs hM => ?_)
      refine g_icmp_ge (tgt := 34) G dX6_yearGoes_12 rfl (fun c4 => ?_) (fun c4 => ?_)
      · have hf := it_pos c4 hf
        exact K34 _ _ _ hf hM ls (lv_sub hl [0] rfl)
      · have hf := it_neg c4 hf
        refine g_iload_n G dX6_yearGoes_15 rfl (lv_at hl 1 rfl) ?_
        refine g_iload_n G dX6_yearGoes_16 rfl (lv_at hl 2 rfl) ?_
        refine g_ishr G dX6_yearGoes_17 ?_
        refine g_iconst (v := 1) G dX6_yearGoes_18 rfl ?_
        refine g_iand G dX6_yearGoes_19 ?_
        obtain ⟨j28, hj28, hf⟩ := jn_open hf
        have J28 : ∀ (z14 : MS) (H : Heap) (locs : List Loc), j28 z14 = some z' → MI D o ad H0 z14 H locs → ∀ ls : Array Slot, lv_has ls 3 [(0, .ref o), (1, .int a1), (2, .int x2)] → Z H locs 0 0 (F0 m 28 ls []) := by
          intro z14 H locs hf hM ls hl
          rw [hj28] at hf
          refine g_iinc (v := x2 + 1) (lv' := [(2, .int (x2 + 1)), (0, .ref o), (1, .int a1)]) G dX6_yearGoes_28 hl (k := 2) rfl rfl (Nat.le_of_ble_eq_true rfl) rfl (fun ls hl => ?_)
          refine g_goto (tgt := 7) G dX6_yearGoes_31 rfl ?_
          exact ih7 _ _ _ _ hf hM ls (lv_sub hl [1, 2, 0] rfl)
        refine g_if_ne (tgt := 28) G dX6_yearGoes_20 rfl (fun c5 => ?_) (fun c5 => ?_)
        · have hf := it_neg c5 hf
          exact J28 _ _ _ hf hM ls (lv_sub hl [0, 1, 2] rfl)
        · have hf := it_pos c5 hf
          refine g_aload_n G dX6_yearGoes_23 rfl (lv_at hl 0 rfl) ?_
          refine g_iload_n G dX6_yearGoes_24 rfl (lv_at hl 2 rfl) ?_
          obtain ⟨z15, h8, hf⟩ := bnv_open hf
          refine m_callVv (As := [.int x2]) (rest := []) X hM hl mc_sitsFor (c_sitsFor h8) rfl (Nat.le_of_ble_eq_true rfl) (Nat.le_of_ble_eq_true rfl) rfl dX6_yearGoes_25 (fun H locs hM => ?_)
          exact J28 _ _ _ hf hM ls (lv_sub hl [0, 1, 2] rfl)
  exact L7 FU _ _ _ _ hf hM ls (lv_sub hl [1, 2, 0] rfl)
