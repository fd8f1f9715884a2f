/-! PART 23: the Model's methods as plain functions, and their contracts (printed by decomp.py) -/
set_option maxRecDepth 100000

theorem mc_yearsGo : mcV yX6_yearsGo cX6_yearsGo 3 (none) 1 522 := ⟨lw_V q2273 q2275 qs119 q157 q2276, ⟨rfl, by decide +kernel, by decide +kernel, by decide +kernel⟩, Nat.le_of_ble_eq_true rfl⟩
noncomputable def m_yearsGo_L2 (a1 : Int32) (s2 : Int32 → MS → Option (MS)) (x1 : Int32) (z1 : MS) : Option (MS) :=
  if a1 ≤ x1 then
    some z1
  else
    bnv (m_yearGoes 0 z1) fun z2 =>
    s2 (x1 + 1) z2
noncomputable def m_yearsGo (a1 : Int32) (z : MS) : Option (MS) :=
  fx (m_yearsGo_L2 a1) (fun _ _ => none) FU 0 z
set_option maxHeartbeats 1000000 in
theorem c_yearsGo {l : Launch} {D : MD} {o : Nat} {ad : Nat → Nat} {a1 : Int32} {z z' : MS} (hf : m_yearsGo a1 z = some z') : MMet l D o ad yX6_yearsGo cX6_yearsGo 3 (none) 8 [.ref o, .int a1] z z' (none) := by
  unfold m_yearsGo at hf
  refine m_head pnX6 rfl (Nat.le_of_ble_eq_true rfl) (fun m Z H0 ls X hM hl => ?_)
  have G := X.g
  have hl : lv_has ls 3 [(0, .ref o), (1, .int a1)] := hl
  refine g_iconst (v := 0) G dX6_yearsGo_0 rfl ?_
  refine g_istore_n (lv' := [(2, .int 0), (0, .ref o), (1, .int a1)]) G dX6_yearsGo_1 rfl hl (Nat.le_of_ble_eq_true rfl) rfl (fun ls hl => ?_)
  have L2 : ∀ (n : Nat) (x1 : Int32) (z1 : MS) (H : Heap) (locs : List Loc), fx (m_yearsGo_L2 a1) (fun _ _ => none) n x1 z1 = some z' → MI D o ad H0 z1 H locs → ∀ ls : Array Slot, lv_has ls 3 [(0, .ref o), (1, .int a1), (2, .int x1)] → Z H locs 0 0 (F0 m 2 ls []) := by
    intro n
    induction n with
    | zero => intro x1 z1 H locs hf; exact absurd hf (by intro q; cases q)
    | succ n ih2 =>
      intro x1 z1 H locs hf hM ls hl
      rw [fx_s] at hf
      generalize fx (m_yearsGo_L2 a1) (fun _ _ => none) n = s2 at hf ih2
      unfold m_yearsGo_L2 at hf
      refine g_iload_n G dX6_yearsGo_2 rfl (lv_at hl 2 rfl) ?_
      refine g_iload_n G dX6_yearsGo_3 rfl (lv_at hl 1 rfl) ?_
      refine g_icmp_ge (tgt := 18) G dX6_yearsGo_4 rfl (fun c1 => ?_) (fun c1 => ?_)
      · have hf := it_pos c1 hf
        exact m_vret X hM hf dX6_yearsGo_18
      · have hf := it_neg c1 hf
        refine g_aload_n G dX6_yearsGo_7 rfl (lv_at hl 0 rfl) ?_
        refine g_iconst (v := 0) G dX6_yearsGo_8 rfl ?_
        obtain ⟨z2, h1, hf⟩ := bnv_open hf
        refine m_callVv (As := [.int 0]) (rest := []) X hM hl mc_yearGoes (c_yearGoes h1) rfl (Nat.le_of_ble_eq_true rfl) (Nat.le_of_ble_eq_true rfl) rfl dX6_yearsGo_9 (fun H locs hM => ?_)
        refine g_iinc (v := x1 + 1) (lv' := [(2, .int (x1 + 1)), (0, .ref o), (1, .int a1)]) G dX6_yearsGo_12 hl (k := 2) rfl rfl (Nat.le_of_ble_eq_true rfl) rfl (fun ls hl => ?_)
        refine g_goto (tgt := 2) G dX6_yearsGo_15 rfl ?_
        exact ih2 _ _ _ _ hf hM ls (lv_sub hl [1, 2, 0] rfl)
  exact L2 FU _ _ _ _ hf hM ls (lv_sub hl [1, 2, 0] rfl)
theorem mc_putsAside : mcV yX6_putsAside cX6_putsAside 2 (none) 0 519 := ⟨lw_V q2269 q2271 qs118 q157 q2272, ⟨rfl, by decide +kernel, by decide +kernel, by decide +kernel⟩, Nat.le_of_ble_eq_true rfl⟩
noncomputable def m_putsAside_L7 (s7 : Int32 → MS → Option (MS)) (x1 : Int32) (z2 : MS) : Option (MS) :=
  if 41 ≤ x1 then
    some z2
  else
    ck (inb x1 (mN 53)) <|
    ck (inb x1 (mN 54)) <|
    nm (wA z2 54 (Int32.toNatClampNeg x1) (mA z2 53 (Int32.toNatClampNeg x1))) fun z3 =>
    s7 (x1 + 1) z3
noncomputable def m_putsAside (z : MS) : Option (MS) :=
  nm (wI z 58 (bI true)) fun z1 =>
  fx m_putsAside_L7 (fun _ _ => none) FU 0 z1
set_option maxHeartbeats 1000000 in
theorem c_putsAside {l : Launch} {D : MD} {o : Nat} {ad : Nat → Nat} {z z' : MS} (hf : m_putsAside z = some z') : MMet l D o ad yX6_putsAside cX6_putsAside 2 (none) 1 [.ref o] z z' (none) := by
  unfold m_putsAside at hf
  refine m_head pnX6 rfl (Nat.le_of_ble_eq_true rfl) (fun m Z H0 ls X hM hl => ?_)
  have G := X.g
  have hl : lv_has ls 2 [(0, .ref o)] := hl
  refine g_aload_n G dX6_putsAside_0 rfl (lv_at hl 0 rfl) ?_
  refine g_iconst (v := 1) G dX6_putsAside_1 rfl ?_
  obtain ⟨z1, hz1, hf⟩ := nm_open hf
  refine mp_z (b := true) X hM mf_58 hz1 dX6_putsAside_2 (fun H locs hM => ?_)
  refine g_iconst (v := 0) G dX6_putsAside_5 rfl ?_
  refine g_istore_n (lv' := [(1, .int 0), (0, .ref o)]) G dX6_putsAside_6 rfl hl (Nat.le_of_ble_eq_true rfl) rfl (fun ls hl => ?_)
  have L7 : ∀ (n : Nat) (x1 : Int32) (z2 : MS) (H : Heap) (locs : List Loc), fx m_putsAside_L7 (fun _ _ => none) n x1 z2 = some z' → MI D o ad H0 z2 H locs → ∀ ls : Array Slot, lv_has ls 2 [(0, .ref o), (1, .int x1)] → Z H locs 0 0 (F0 m 7 ls []) := by
    intro n
    induction n with
    | zero => intro x1 z2 H locs hf; exact absurd hf (by intro q; cases q)
    | succ n ih7 =>
      intro x1 z2 H locs hf hM ls hl
      rw [fx_s] at hf
      generalize fx m_putsAside_L7 (fun _ _ => none) n = s7 at hf ih7
      unfold m_putsAside_L7 at hf
      refine g_iload_n G dX6_putsAside_7 rfl (lv_at hl 1 rfl) ?_
      refine g_bipush (v := 41) G dX6_putsAside_8 rfl ?_
      refine g_icmp_ge (tgt := 31) G dX6_putsAside_10 rfl (fun c1 => ?_) (fun c1 => ?_)
      · have hf := it_pos c1 hf
        exact m_vret X hM hf dX6_putsAside_31
      · have hf := it_neg c1 hf
        refine g_aload_n G dX6_putsAside_13 rfl (lv_at hl 0 rfl) ?_
        refine mg_a X hM mf_54 dX6_putsAside_14 ?_
        refine g_iload_n G dX6_putsAside_17 rfl (lv_at hl 1 rfl) ?_
        refine g_aload_n G dX6_putsAside_18 rfl (lv_at hl 0 rfl) ?_
        refine mg_a X hM mf_53 dX6_putsAside_19 ?_
        refine g_iload_n G dX6_putsAside_22 rfl (lv_at hl 1 rfl) ?_
        obtain ⟨b1, hf⟩ := ck_open hf
        refine m_iald X hM (mIs.of mf_53) b1 dX6_putsAside_23 ?_
        obtain ⟨b2, hf⟩ := ck_open hf
        obtain ⟨z3, hz3, hf⟩ := nm_open hf
        refine m_iast X hM (mIs.of mf_54) b2 hz3 dX6_putsAside_24 (fun H locs hM => ?_)
        refine g_iinc (v := x1 + 1) (lv' := [(1, .int (x1 + 1)), (0, .ref o)]) G dX6_putsAside_25 hl (k := 1) rfl rfl (Nat.le_of_ble_eq_true rfl) rfl (fun ls hl => ?_)
        refine g_goto (tgt := 7) G dX6_putsAside_28 rfl ?_
        exact ih7 _ _ _ _ hf hM ls (lv_sub hl [1, 0] rfl)
  exact L7 FU _ _ _ _ hf hM ls (lv_sub hl [1, 0] rfl)
theorem mc_triesAnew : mcV yX6_triesAnew cX6_triesAnew 2 (none) 0 480 := ⟨lw_V q2309 q2311 qs128 q157 q2312, ⟨rfl, by decide +kernel, by decide +kernel, by decide +kernel⟩, Nat.le_of_ble_eq_true rfl⟩
noncomputable def m_triesAnew_L2 (s2 : Int32 → MS → Option (MS)) (x1 : Int32) (z1 : MS) : Option (MS) :=
  if 41 ≤ x1 then
    some z1
  else
    ck (inb x1 (mN 54)) <|
    ck (inb x1 (mN 53)) <|
    nm (wA z1 53 (Int32.toNatClampNeg x1) (mA z1 54 (Int32.toNatClampNeg x1))) fun z2 =>
    s2 (x1 + 1) z2
noncomputable def m_triesAnew (z : MS) : Option (MS) :=
  fx m_triesAnew_L2 (fun _ _ => none) FU 0 z
set_option maxHeartbeats 1000000 in
theorem c_triesAnew {l : Launch} {D : MD} {o : Nat} {ad : Nat → Nat} {z z' : MS} (hf : m_triesAnew z = some z') : MMet l D o ad yX6_triesAnew cX6_triesAnew 2 (none) 1 [.ref o] z z' (none) := by
  unfold m_triesAnew at hf
  refine m_head pnX6 rfl (Nat.le_of_ble_eq_true rfl) (fun m Z H0 ls X hM hl => ?_)
  have G := X.g
  have hl : lv_has ls 2 [(0, .ref o)] := hl
  refine g_iconst (v := 0) G dX6_triesAnew_0 rfl ?_
  refine g_istore_n (lv' := [(1, .int 0), (0, .ref o)]) G dX6_triesAnew_1 rfl hl (Nat.le_of_ble_eq_true rfl) rfl (fun ls hl => ?_)
  have L2 : ∀ (n : Nat) (x1 : Int32) (z1 : MS) (H : Heap) (locs : List Loc), fx m_triesAnew_L2 (fun _ _ => none) n x1 z1 = some z' → MI D o ad H0 z1 H locs → ∀ ls : Array Slot, lv_has ls 2 [(0, .ref o), (1, .int x1)] → Z H locs 0 0 (F0 m 2 ls []) := by
    intro n
    induction n with
    | zero => intro x1 z1 H locs hf; exact absurd hf (by intro q; cases q)
    | succ n ih2 =>
      intro x1 z1 H locs hf hM ls hl
      rw [fx_s] at hf
      generalize fx m_triesAnew_L2 (fun _ _ => none) n = s2 at hf ih2
      unfold m_triesAnew_L2 at hf
      refine g_iload_n G dX6_triesAnew_2 rfl (lv_at hl 1 rfl) ?_
      refine g_bipush (v := 41) G dX6_triesAnew_3 rfl ?_
      refine g_icmp_ge (tgt := 26) G dX6_triesAnew_5 rfl (fun c1 => ?_) (fun c1 => ?_)
      · have hf := it_pos c1 hf
        exact m_vret X hM hf dX6_triesAnew_26
      · have hf := it_neg c1 hf
        refine g_aload_n G dX6_triesAnew_8 rfl (lv_at hl 0 rfl) ?_
        refine mg_a X hM mf_53 dX6_triesAnew_9 ?_
        refine g_iload_n G dX6_triesAnew_12 rfl (lv_at hl 1 rfl) ?_
        refine g_aload_n G dX6_triesAnew_13 rfl (lv_at hl 0 rfl) ?_
        refine mg_a X hM mf_54 dX6_triesAnew_14 ?_
        refine g_iload_n G dX6_triesAnew_17 rfl (lv_at hl 1 rfl) ?_
        obtain ⟨b1, hf⟩ := ck_open hf
        refine m_iald X hM (mIs.of mf_54) b1 dX6_triesAnew_18 ?_
        obtain ⟨b2, hf⟩ := ck_open hf
        obtain ⟨z2, hz2, hf⟩ := nm_open hf
        refine m_iast X hM (mIs.of mf_53) b2 hz2 dX6_triesAnew_19 (fun H locs hM => ?_)
        refine g_iinc (v := x1 + 1) (lv' := [(1, .int (x1 + 1)), (0, .ref o)]) G dX6_triesAnew_20 hl (k := 1) rfl rfl (Nat.le_of_ble_eq_true rfl) rfl (fun ls hl => ?_)
        refine g_goto (tgt := 2) G dX6_triesAnew_23 rfl ?_
        exact ih2 _ _ _ _ hf hM ls (lv_sub hl [1, 0] rfl)
  exact L2 FU _ _ _ _ hf hM ls (lv_sub hl [1, 0] rfl)
theorem mc_takesBack : mcV yX6_takesBack cX6_takesBack 1 (none) 0 525 := ⟨lw_V q2305 q2307 qs127 q157 q2308, ⟨rfl, by decide +kernel, by decide +kernel, by decide +kernel⟩, Nat.le_of_ble_eq_true rfl⟩
noncomputable def m_takesBack (z : MS) : Option (MS) :=
  bnv (m_triesAnew z) fun z1 =>
  nm (wI z1 58 (bI false)) fun z2 =>
  some z2
set_option maxHeartbeats 1000000 in
theorem c_takesBack {l : Launch} {D : MD} {o : Nat} {ad : Nat → Nat} {z z' : MS} (hf : m_takesBack z = some z') : MMet l D o ad yX6_takesBack cX6_takesBack 1 (none) 2 [.ref o] z z' (none) := by
  unfold m_takesBack at hf
  refine m_head pnX6 rfl (Nat.le_of_ble_eq_true rfl) (fun m Z H0 ls X hM hl => ?_)
  have G := X.g
  have hl : lv_has ls 1 [(0, .ref o)] := hl
  refine g_aload_n G dX6_takesBack_0 rfl (lv_at hl 0 rfl) ?_
  obtain ⟨z1, h1, hf⟩ := bnv_open hf
  refine m_callVv (As := []) (rest := []) X hM hl mc_triesAnew (c_triesAnew h1) rfl (Nat.le_of_ble_eq_true rfl) (Nat.le_of_ble_eq_true rfl) rfl dX6_takesBack_1 (fun H locs hM => ?_)
  refine g_aload_n G dX6_takesBack_4 rfl (lv_at hl 0 rfl) ?_
  refine g_iconst (v := 0) G dX6_takesBack_5 rfl ?_
  obtain ⟨z2, hz2, hf⟩ := nm_open hf
  refine mp_z (b := false) X hM mf_58 hz2 dX6_takesBack_6 (fun H locs hM => ?_)
  exact m_vret X hM hf dX6_takesBack_9
theorem mc_isAhead : mcV yX6_isAhead cX6_isAhead 4 (some .boolean) 3 514 := ⟨lw_V q2264 q2266 qs117 q157 q2267, ⟨rfl, by decide +kernel, by decide +kernel, by decide +kernel⟩, Nat.le_of_ble_eq_true rfl⟩
noncomputable def m_isAhead (a1 : Int32) (a2 : Int32) (a3 : Int32) (z : MS) : Option (Bool × MS) :=
  bnd (m_isIn (Int32.toInt64 a1) (Int32.toInt64 a2) (Int32.toInt64 a3) z) fun r1 z1 =>
  jn (fun (z2 : MS) =>
    some (false, z2)) fun j30 =>
  if (bI r1) = 0 then
    j30 z1
  else
    if 999 < ((mA z1 53 (Int32.toNatClampNeg 0)) + a1) then
      j30 z1
    else
      some (true, z1)
set_option maxHeartbeats 1000000 in
theorem c_isAhead {l : Launch} {D : MD} {o : Nat} {ad : Nat → Nat} {a1 : Int32} {a2 : Int32} {a3 : Int32} {z z' : MS} {r : Bool} (hf : m_isAhead a1 a2 a3 z = some (r, z')) : MMet l D o ad yX6_isAhead cX6_isAhead 4 (some .boolean) 2 [.ref o, .int a1, .int a2, .int a3] z z' (some (.int (bI r))) := by
  unfold m_isAhead at hf
  refine m_head pnX6 rfl (Nat.le_of_ble_eq_true rfl) (fun m Z H0 ls X hM hl => ?_)
  have G := X.g
  have hl : lv_has ls 4 [(0, .ref o), (1, .int a1), (2, .int a2), (3, .int a3)] := hl
  refine g_iload_n G dX6_isAhead_0 rfl (lv_at hl 1 rfl) ?_
  refine g_i2l (v := Int32.toInt64 a1) G dX6_isAhead_1 rfl ?_
  refine g_iload_n G dX6_isAhead_2 rfl (lv_at hl 2 rfl) ?_
  refine g_i2l (v := Int32.toInt64 a2) G dX6_isAhead_3 rfl ?_
  refine g_iload_n G dX6_isAhead_4 rfl (lv_at hl 3 rfl) ?_
  refine g_i2l (v := Int32.toInt64 a3) G dX6_isAhead_5 rfl ?_
  obtain ⟨r1, z1, h1, hf⟩ := bnd_open hf
  refine m_callSi (As := [.long (Int32.toInt64 a1), .long (Int32.toInt64 a2), .long (Int32.toInt64 a3)]) (rest := []) X hM hl mc_isIn (c_isIn h1) rfl (Nat.le_of_ble_eq_true rfl) (Nat.le_of_ble_eq_true rfl) rfl dX6_isAhead_6 (fun H locs hM => ?_)
  obtain ⟨j30, hj30, hf⟩ := jn_open hf
  have J30 : ∀ (z2 : MS) (H : Heap) (locs : List Loc), j30 z2 = some (r, z') → MI D o ad H0 z2 H locs → ∀ ls : Array Slot, lv_has ls 4 [] → Z H locs 0 0 (F0 m 30 ls []) := by
    intro z2 H locs hf hM ls hl
    rw [hj30] at hf
    refine g_iconst (v := 0) G dX6_isAhead_30 rfl ?_
    exact m_zret X hM hf dX6_isAhead_31
  refine g_if_eq (tgt := 30) G dX6_isAhead_9 rfl (fun c1 => ?_) (fun c1 => ?_)
  · have hf := it_pos c1 hf
    exact J30 _ _ _ hf hM ls (lv_sub hl [] rfl)
  · have hf := it_neg c1 hf
    refine g_aload_n G dX6_isAhead_12 rfl (lv_at hl 0 rfl) ?_
    refine mg_a X hM mf_53 dX6_isAhead_13 ?_
    refine g_iconst (v := 0) G dX6_isAhead_16 rfl ?_
    refine m_iald X hM (mIs.of mf_53) (by decide) dX6_isAhead_17 ?_
    refine g_iload_n G dX6_isAhead_18 rfl (lv_at hl 1 rfl) ?_
    refine g_iadd G dX6_isAhead_19 ?_
    refine g_sipush (v := 999) G dX6_isAhead_20 rfl ?_
    refine g_icmp_gt (tgt := 30) G dX6_isAhead_23 rfl (fun c2 => ?_) (fun c2 => ?_)
    · have hf := it_pos c2 hf
      exact J30 _ _ _ hf hM ls (lv_sub hl [] rfl)
    · have hf := it_neg c2 hf
      refine g_iconst (v := 1) G dX6_isAhead_26 rfl ?_
      refine g_goto (tgt := 31) G dX6_isAhead_27 rfl ?_
      exact m_zret X hM hf dX6_isAhead_31
theorem mc_thoseWho : mcV yX6_thoseWho cX6_thoseWho 4 (some .int) 1 486 := ⟨lw_V q2134 q2136 qs95 q157 q2137, ⟨rfl, by decide +kernel, by decide +kernel, by decide +kernel⟩, Nat.le_of_ble_eq_true rfl⟩
noncomputable def m_thoseWho_L4 (a1 : Int32) (s4 : Int32 → Int32 → MS → Option (Int32 × MS)) (x1 : Int32) (x2 : Int32) (z1 : MS) : Option (Int32 × MS) :=
  bnd (m_personMany z1) fun r1 z2 =>
  if r1 ≤ x2 then
    some (x1, z2)
  else
    ck (inb ((1 + (5 * x2)) + 4) (mN 53)) <|
    jn (fun (x3 : Int32) (z3 : MS) =>
      s4 x3 (x2 + 1) z3) fun j35 =>
    if ((mA z2 53 (Int32.toNatClampNeg ((1 + (5 * x2)) + 4))) &&& a1) = 0 then
      j35 x1 z2
    else
      j35 (x1 ||| (1 <<< (x2 &&& 31))) z2
noncomputable def m_thoseWho (a1 : Int32) (z : MS) : Option (Int32 × MS) :=
  fx (m_thoseWho_L4 a1) (fun _ _ _ => none) FU 0 0 z
set_option maxHeartbeats 1000000 in
theorem c_thoseWho {l : Launch} {D : MD} {o : Nat} {ad : Nat → Nat} {a1 : Int32} {z z' : MS} {r : Int32} (hf : m_thoseWho a1 z = some (r, z')) : MMet l D o ad yX6_thoseWho cX6_thoseWho 4 (some .int) 2 [.ref o, .int a1] z z' (some (.int r)) := by
  unfold m_thoseWho at hf
  refine m_head pnX6 rfl (Nat.le_of_ble_eq_true rfl) (fun m Z H0 ls X hM hl => ?_)
  have G := X.g
  have hl : lv_has ls 4 [(0, .ref o), (1, .int a1)] := hl
  refine g_iconst (v := 0) G dX6_thoseWho_0 rfl ?_
  refine g_istore_n (lv' := [(2, .int 0), (0, .ref o), (1, .int a1)]) G dX6_thoseWho_1 rfl hl (Nat.le_of_ble_eq_true rfl) rfl (fun ls hl => ?_)
  refine g_iconst (v := 0) G dX6_thoseWho_2 rfl ?_
  refine g_istore_n (lv' := [(3, .int 0), (2, .int 0), (0, .ref o), (1, .int a1)]) G dX6_thoseWho_3 rfl hl (Nat.le_of_ble_eq_true rfl) rfl (fun ls hl => ?_)
  have L4 : ∀ (n : Nat) (x1 : Int32) (x2 : Int32) (z1 : MS) (H : Heap) (locs : List Loc), fx (m_thoseWho_L4 a1) (fun _ _ _ => none) n x1 x2 z1 = some (r, z') → MI D o ad H0 z1 H locs → ∀ ls : Array Slot, lv_has ls 4 [(0, .ref o), (1, .int a1), (2, .int x1), (3, .int x2)] → Z H locs 0 0 (F0 m 4 ls []) := by
    intro n
    induction n with
    | zero => intro x1 x2 z1 H locs hf; exact absurd hf (by intro q; cases q)
    | succ n ih4 =>
      intro x1 x2 z1 H locs hf hM ls hl
      rw [fx_s] at hf
      generalize fx (m_thoseWho_L4 a1) (fun _ _ _ => none) n = s4 at hf ih4
      unfold m_thoseWho_L4 at hf
      refine g_iload_n G dX6_thoseWho_4 rfl (lv_at hl 3 rfl) ?_
      refine g_aload_n G dX6_thoseWho_5 rfl (lv_at hl 0 rfl) ?_
      obtain ⟨r1, z2, h1, hf⟩ := bnd_open hf
      refine m_callVi (As := []) (rest := [.int x2]) X hM hl mc_personMany (c_personMany h1) rfl (Nat.le_of_ble_eq_true rfl) (Nat.le_of_ble_eq_true rfl) rfl dX6_thoseWho_6 (fun H locs hM => ?_)
      refine g_icmp_ge (tgt := 41) G dX6_thoseWho_9 rfl (fun c1 => ?_) (fun c1 => ?_)
      · have hf := it_pos c1 hf
        refine g_iload_n G dX6_thoseWho_41 rfl (lv_at hl 2 rfl) ?_
        exact m_iret X hM hf dX6_thoseWho_42
      · have hf := it_neg c1 hf
        refine g_aload_n G dX6_thoseWho_12 rfl (lv_at hl 0 rfl) ?_
        refine mg_a X hM mf_53 dX6_thoseWho_13 ?_
        refine g_iconst (v := 1) G dX6_thoseWho_16 rfl ?_
        refine g_iconst (v := 5) G dX6_thoseWho_17 rfl ?_
        refine g_iload_n G dX6_thoseWho_18 rfl (lv_at hl 3 rfl) ?_
        refine g_imul G dX6_thoseWho_19 ?_
        refine g_iadd G dX6_thoseWho_20 ?_
        refine g_iconst (v := 4) G dX6_thoseWho_21 rfl ?_
        refine g_iadd G dX6_thoseWho_22 ?_
        obtain ⟨b1, hf⟩ := ck_open hf
        refine m_iald X hM (mIs.of mf_53) b1 dX6_thoseWho_23 ?_
        refine g_iload_n G dX6_thoseWho_24 rfl (lv_at hl 1 rfl) ?_
        refine g_iand G dX6_thoseWho_25 ?_
        obtain ⟨j35, hj35, hf⟩ := jn_open hf
        have J35 : ∀ (x3 : Int32) (z3 : MS) (H : Heap) (locs : List Loc), j35 x3 z3 = some (r, z') → MI D o ad H0 z3 H locs → ∀ ls : Array Slot, lv_has ls 4 [(0, .ref o), (1, .int a1), (2, .int x3), (3, .int x2)] → Z H locs 0 0 (F0 m 35 ls []) := by
          intro x3 z3 H locs hf hM ls hl
          rw [hj35] at hf
          refine g_iinc (v := x2 + 1) (lv' := [(3, .int (x2 + 1)), (0, .ref o), (1, .int a1), (2, .int x3)]) G dX6_thoseWho_35 hl (k := 3) rfl rfl (Nat.le_of_ble_eq_true rfl) rfl (fun ls hl => ?_)
          refine g_goto (tgt := 4) G dX6_thoseWho_38 rfl ?_
          exact ih4 _ _ _ _ _ hf hM ls (lv_sub hl [1, 2, 3, 0] rfl)
        refine g_if_eq (tgt := 35) G dX6_thoseWho_26 rfl (fun c2 => ?_) (fun c2 => ?_)
        · have hf := it_pos c2 hf
          exact J35 _ _ _ _ hf hM ls (lv_sub hl [0, 1, 2, 3] rfl)
        · have hf := it_neg c2 hf
          refine g_iload_n G dX6_thoseWho_29 rfl (lv_at hl 2 rfl) ?_
          refine g_iconst (v := 1) G dX6_thoseWho_30 rfl ?_
          refine g_iload_n G dX6_thoseWho_31 rfl (lv_at hl 3 rfl) ?_
          refine g_ishl G dX6_thoseWho_32 ?_
          refine g_ior G dX6_thoseWho_33 ?_
          refine g_istore_n (lv' := [(2, .int (x1 ||| (1 <<< (x2 &&& 31)))), (0, .ref o), (1, .int a1), (3, .int x2)]) G dX6_thoseWho_34 rfl hl (Nat.le_of_ble_eq_true rfl) rfl (fun ls hl => ?_)
          exact J35 _ _ _ _ hf hM ls (lv_sub hl [1, 2, 0, 3] rfl)
  exact L4 FU _ _ _ _ _ hf hM ls (lv_sub hl [2, 3, 1, 0] rfl)
theorem mc_beliefs : mcV yX6_beliefs cX6_beliefs 4 (some .int) 1 489 := ⟨lw_V q2145 q2147 qs97 q157 q2148, ⟨rfl, by decide +kernel, by decide +kernel, by decide +kernel⟩, Nat.le_of_ble_eq_true rfl⟩
noncomputable def m_beliefs_L4 (a1 : Bool) (s4 : Int32 → Int32 → MS → Option (Int32 × MS)) (x1 : Int32) (x2 : Int32) (z1 : MS) : Option (Int32 × MS) :=
  bnd (m_personMany z1) fun r1 z2 =>
  if r1 ≤ x2 then
    some (x1, z2)
  else
    jn (fun (x3 : Int32) (z3 : MS) =>
      bnd (m_bits x3 z3) fun r2 z4 =>
      s4 (x1 + r2) (x2 + 1) z4) fun j30 =>
    if (bI a1) = 0 then
      bnd (m_wrongOf x2 z2) fun r3 z5 =>
      j30 r3 z5
    else
      bnd (m_rightOf x2 z2) fun r4 z6 =>
      j30 r4 z6
noncomputable def m_beliefs (a1 : Bool) (z : MS) : Option (Int32 × MS) :=
  fx (m_beliefs_L4 a1) (fun _ _ _ => none) FU 0 0 z
set_option maxHeartbeats 1000000 in
theorem c_beliefs {l : Launch} {D : MD} {o : Nat} {ad : Nat → Nat} {a1 : Bool} {z z' : MS} {r : Int32} (hf : m_beliefs a1 z = some (r, z')) : MMet l D o ad yX6_beliefs cX6_beliefs 4 (some .int) 2 [.ref o, .int (bI a1)] z z' (some (.int r)) := by
  unfold m_beliefs at hf
  refine m_head pnX6 rfl (Nat.le_of_ble_eq_true rfl) (fun m Z H0 ls X hM hl => ?_)
  have G := X.g
  have hl : lv_has ls 4 [(0, .ref o), (1, .int (bI a1))] := hl
  refine g_iconst (v := 0) G dX6_beliefs_0 rfl ?_
  refine g_istore_n (lv' := [(2, .int 0), (0, .ref o), (1, .int (bI a1))]) G dX6_beliefs_1 rfl hl (Nat.le_of_ble_eq_true rfl) rfl (fun ls hl => ?_)
  refine g_iconst (v := 0) G dX6_beliefs_2 rfl ?_
  refine g_istore_n (lv' := [(3, .int 0), (2, .int 0), (0, .ref o), (1, .int (bI a1))]) G dX6_beliefs_3 rfl hl (Nat.le_of_ble_eq_true rfl) rfl (fun ls hl => ?_)
  have L4 : ∀ (n : Nat) (x1 : Int32) (x2 : Int32) (z1 : MS) (H : Heap) (locs : List Loc), fx (m_beliefs_L4 a1) (fun _ _ _ => none) n x1 x2 z1 = some (r, z') → MI D o ad H0 z1 H locs → ∀ ls : Array Slot, lv_has ls 4 [(0, .ref o), (1, .int (bI a1)), (2, .int x1), (3, .int x2)] → Z H locs 0 0 (F0 m 4 ls []) := by
    intro n
    induction n with
    | zero => intro x1 x2 z1 H locs hf; exact absurd hf (by intro q; cases q)
    | succ n ih4 =>
      intro x1 x2 z1 H locs hf hM ls hl
      rw [fx_s] at hf
      generalize fx (m_beliefs_L4 a1) (fun _ _ _ => none) n = s4 at hf ih4
      unfold m_beliefs_L4 at hf
      refine g_iload_n G dX6_beliefs_4 rfl (lv_at hl 3 rfl) ?_
      refine g_aload_n G dX6_beliefs_5 rfl (lv_at hl 0 rfl) ?_
      obtain ⟨r1, z2, h1, hf⟩ := bnd_open hf
      refine m_callVi (As := []) (rest := [.int x2]) X hM hl mc_personMany (c_personMany h1) rfl (Nat.le_of_ble_eq_true rfl) (Nat.le_of_ble_eq_true rfl) rfl dX6_beliefs_6 (fun H locs hM => ?_)
      refine g_icmp_ge (tgt := 41) G dX6_beliefs_9 rfl (fun c1 => ?_) (fun c1 => ?_)
      · have hf := it_pos c1 hf
        refine g_iload_n G dX6_beliefs_41 rfl (lv_at hl 2 rfl) ?_
        exact m_iret X hM hf dX6_beliefs_42
      · have hf := it_neg c1 hf
        refine g_iload_n G dX6_beliefs_12 rfl (lv_at hl 2 rfl) ?_
        refine g_iload_n G dX6_beliefs_13 rfl (lv_at hl 1 rfl) ?_
        obtain ⟨j30, hj30, hf⟩ := jn_open hf
        have J30 : ∀ (x3 : Int32) (z3 : MS) (H : Heap) (locs : List Loc), j30 x3 z3 = some (r, z') → MI D o ad H0 z3 H locs → ∀ ls : Array Slot, lv_has ls 4 [(0, .ref o), (1, .int (bI a1)), (3, .int x2)] → Z H locs 0 0 (F0 m 30 ls [.int x3, .int x1]) := by
          intro x3 z3 H locs hf hM ls hl
          rw [hj30] at hf
          obtain ⟨r2, z4, h2, hf⟩ := bnd_open hf
          refine m_callSi (As := [.int x3]) (rest := [.int x1]) X hM hl mc_bits (c_bits h2) rfl (Nat.le_of_ble_eq_true rfl) (Nat.le_of_ble_eq_true rfl) rfl dX6_beliefs_30 (fun H locs hM => ?_)
          refine g_iadd G dX6_beliefs_33 ?_
          refine g_istore_n (lv' := [(2, .int (x1 + r2)), (0, .ref o), (1, .int (bI a1)), (3, .int x2)]) G dX6_beliefs_34 rfl hl (Nat.le_of_ble_eq_true rfl) rfl (fun ls hl => ?_)
          refine g_iinc (v := x2 + 1) (lv' := [(3, .int (x2 + 1)), (2, .int (x1 + r2)), (0, .ref o), (1, .int (bI a1))]) G dX6_beliefs_35 hl (k := 3) rfl rfl (Nat.le_of_ble_eq_true rfl) rfl (fun ls hl => ?_)
          refine g_goto (tgt := 4) G dX6_beliefs_38 rfl ?_
          exact ih4 _ _ _ _ _ hf hM ls (lv_sub hl [2, 3, 1, 0] rfl)
        refine g_if_eq (tgt := 25) G dX6_beliefs_14 rfl (fun c2 => ?_) (fun c2 => ?_)
        · have hf := it_pos c2 hf
          refine g_aload_n G dX6_beliefs_25 rfl (lv_at hl 0 rfl) ?_
          refine g_iload_n G dX6_beliefs_26 rfl (lv_at hl 3 rfl) ?_
          obtain ⟨r3, z5, h3, hf⟩ := bnd_open hf
          refine m_callVi (As := [.int x2]) (rest := [.int x1]) X hM hl mc_wrongOf (c_wrongOf h3) rfl (Nat.le_of_ble_eq_true rfl) (Nat.le_of_ble_eq_true rfl) rfl dX6_beliefs_27 (fun H locs hM => ?_)
          exact J30 _ _ _ _ hf hM ls (lv_sub hl [0, 1, 3] rfl)
        · have hf := it_neg c2 hf
          refine g_aload_n G dX6_beliefs_17 rfl (lv_at hl 0 rfl) ?_
          refine g_iload_n G dX6_beliefs_18 rfl (lv_at hl 3 rfl) ?_
          obtain ⟨r4, z6, h4, hf⟩ := bnd_open hf
          refine m_callVi (As := [.int x2]) (rest := [.int x1]) X hM hl mc_rightOf (c_rightOf h4) rfl (Nat.le_of_ble_eq_true rfl) (Nat.le_of_ble_eq_true rfl) rfl dX6_beliefs_19 (fun H locs hM => ?_)
          refine g_goto (tgt := 30) G dX6_beliefs_22 rfl ?_
          exact J30 _ _ _ _ hf hM ls (lv_sub hl [0, 1, 3] rfl)
  exact L4 FU _ _ _ _ _ hf hM ls (lv_sub hl [2, 3, 1, 0] rfl)
noncomputable def m_has (a1 : Int32) (z : MS) : Option (Int32 × MS) :=
  if a1 = 0 then
    ck (inb (2 + a1) (mN 39)) <|
    some ((mA z 39 (Int32.toNatClampNeg (2 + a1))), z)
  else
    if a1 = 1 then
      ck (inb (2 + a1) (mN 39)) <|
      some ((mA z 39 (Int32.toNatClampNeg (2 + a1))), z)
    else
      if a1 = 2 then
        ck (inb ((3 + a1) - 2) (mN 46)) <|
        some ((mA z 46 (Int32.toNatClampNeg ((3 + a1) - 2))), z)
      else
        if a1 = 3 then
          ck (inb ((3 + a1) - 2) (mN 46)) <|
          some ((mA z 46 (Int32.toNatClampNeg ((3 + a1) - 2))), z)
        else
          if a1 = 4 then
            some ((mA z 53 (Int32.toNatClampNeg 0)), z)
          else
            if a1 = 5 then
              bnd (m_thoseWho (a1 - 4) z) fun r1 z1 =>
              bnd (m_bits r1 z1) fun r2 z2 =>
              some (r2, z2)
            else
              if a1 = 6 then
                bnd (m_thoseWho (a1 - 4) z) fun r3 z3 =>
                bnd (m_bits r3 z3) fun r4 z4 =>
                some (r4, z4)
              else
                if a1 = 7 then
                  bnd (m_beliefs false z) fun r5 z5 =>
                  some (r5, z5)
                else
                  if a1 = 8 then
                    some ((mA z 53 (Int32.toNatClampNeg 41)), z)
                  else
                    if a1 = 9 then
                      some ((mI z 60), z)
                    else
                      if a1 = 10 then
                        some ((mI z 65), z)
                      else
                        some ((-1), z)
set_option maxHeartbeats 1000000 in
theorem c_has {l : Launch} {D : MD} {o : Nat} {ad : Nat → Nat} {a1 : Int32} {z z' : MS} {r : Int32} (hf : m_has a1 z = some (r, z')) : MMet l D o ad yX6_has cX6_has 2 (some .int) 3 [.ref o, .int a1] z z' (some (.int r)) := by
  unfold m_has at hf
  refine m_head pnX6 rfl (Nat.le_of_ble_eq_true rfl) (fun m Z H0 ls X hM hl => ?_)
  have G := X.g
  have hl : lv_has ls 2 [(0, .ref o), (1, .int a1)] := hl
  refine g_iload_n G dX6_has_0 rfl (lv_at hl 1 rfl) ?_
  by_cases c1 : a1 = 0
  · have hf := it_pos c1 hf
    refine g_tableIn (off := 59) (tgt := 60) G dX6_has_1 (by rw [c1]; decide) (by rw [c1]; decide) (by rw [c1]; rfl) rfl ?_
    refine g_aload_n G dX6_has_60 rfl (lv_at hl 0 rfl) ?_
    refine mg_a X hM mf_39 dX6_has_61 ?_
    refine g_iconst (v := 2) G dX6_has_64 rfl ?_
    refine g_iload_n G dX6_has_65 rfl (lv_at hl 1 rfl) ?_
    refine g_iadd G dX6_has_66 ?_
    obtain ⟨b1, hf⟩ := ck_open hf
    refine m_iald X hM (mIs.of mf_39) b1 dX6_has_67 ?_
    exact m_iret X hM hf dX6_has_68
  have hf := it_neg c1 hf
  by_cases c2 : a1 = 1
  · have hf := it_pos c2 hf
    refine g_tableIn (off := 59) (tgt := 60) G dX6_has_1 (by rw [c2]; decide) (by rw [c2]; decide) (by rw [c2]; rfl) rfl ?_
    refine g_aload_n G dX6_has_60 rfl (lv_at hl 0 rfl) ?_
    refine mg_a X hM mf_39 dX6_has_61 ?_
    refine g_iconst (v := 2) G dX6_has_64 rfl ?_
    refine g_iload_n G dX6_has_65 rfl (lv_at hl 1 rfl) ?_
    refine g_iadd G dX6_has_66 ?_
    obtain ⟨b2, hf⟩ := ck_open hf
    refine m_iald X hM (mIs.of mf_39) b2 dX6_has_67 ?_
    exact m_iret X hM hf dX6_has_68
  have hf := it_neg c2 hf
  by_cases c3 : a1 = 2
  · have hf := it_pos c3 hf
    refine g_tableIn (off := 68) (tgt := 69) G dX6_has_1 (by rw [c3]; decide) (by rw [c3]; decide) (by rw [c3]; rfl) rfl ?_
    refine g_aload_n G dX6_has_69 rfl (lv_at hl 0 rfl) ?_
    refine mg_a X hM mf_46 dX6_has_70 ?_
    refine g_iconst (v := 3) G dX6_has_73 rfl ?_
    refine g_iload_n G dX6_has_74 rfl (lv_at hl 1 rfl) ?_
    refine g_iadd G dX6_has_75 ?_
    refine g_iconst (v := 2) G dX6_has_76 rfl ?_
    refine g_isub G dX6_has_77 ?_
    obtain ⟨b3, hf⟩ := ck_open hf
    refine m_iald X hM (mIs.of mf_46) b3 dX6_has_78 ?_
    exact m_iret X hM hf dX6_has_79
  have hf := it_neg c3 hf
  by_cases c4 : a1 = 3
  · have hf := it_pos c4 hf
    refine g_tableIn (off := 68) (tgt := 69) G dX6_has_1 (by rw [c4]; decide) (by rw [c4]; decide) (by rw [c4]; rfl) rfl ?_
    refine g_aload_n G dX6_has_69 rfl (lv_at hl 0 rfl) ?_
    refine mg_a X hM mf_46 dX6_has_70 ?_
    refine g_iconst (v := 3) G dX6_has_73 rfl ?_
    refine g_iload_n G dX6_has_74 rfl (lv_at hl 1 rfl) ?_
    refine g_iadd G dX6_has_75 ?_
    refine g_iconst (v := 2) G dX6_has_76 rfl ?_
    refine g_isub G dX6_has_77 ?_
    obtain ⟨b4, hf⟩ := ck_open hf
    refine m_iald X hM (mIs.of mf_46) b4 dX6_has_78 ?_
    exact m_iret X hM hf dX6_has_79
  have hf := it_neg c4 hf
  by_cases c5 : a1 = 4
  · have hf := it_pos c5 hf
    refine g_tableIn (off := 79) (tgt := 80) G dX6_has_1 (by rw [c5]; decide) (by rw [c5]; decide) (by rw [c5]; rfl) rfl ?_
    refine g_aload_n G dX6_has_80 rfl (lv_at hl 0 rfl) ?_
    refine mg_a X hM mf_53 dX6_has_81 ?_
    refine g_iconst (v := 0) G dX6_has_84 rfl ?_
    refine m_iald X hM (mIs.of mf_53) (by decide) dX6_has_85 ?_
    exact m_iret X hM hf dX6_has_86
  have hf := it_neg c5 hf
  by_cases c6 : a1 = 5
  · have hf := it_pos c6 hf
    refine g_tableIn (off := 86) (tgt := 87) G dX6_has_1 (by rw [c6]; decide) (by rw [c6]; decide) (by rw [c6]; rfl) rfl ?_
    refine g_aload_n G dX6_has_87 rfl (lv_at hl 0 rfl) ?_
    refine g_iload_n G dX6_has_88 rfl (lv_at hl 1 rfl) ?_
    refine g_iconst (v := 4) G dX6_has_89 rfl ?_
    refine g_isub G dX6_has_90 ?_
    obtain ⟨r1, z1, h1, hf⟩ := bnd_open hf
    refine m_callVi (As := [.int (a1 - 4)]) (rest := []) X hM hl mc_thoseWho (c_thoseWho h1) rfl (Nat.le_of_ble_eq_true rfl) (Nat.le_of_ble_eq_true rfl) rfl dX6_has_91 (fun H locs hM => ?_)
    obtain ⟨r2, z2, h2, hf⟩ := bnd_open hf
    refine m_callSi (As := [.int r1]) (rest := []) X hM hl mc_bits (c_bits h2) rfl (Nat.le_of_ble_eq_true rfl) (Nat.le_of_ble_eq_true rfl) rfl dX6_has_94 (fun H locs hM => ?_)
    exact m_iret X hM hf dX6_has_97
  have hf := it_neg c6 hf
  by_cases c7 : a1 = 6
  · have hf := it_pos c7 hf
    refine g_tableIn (off := 86) (tgt := 87) G dX6_has_1 (by rw [c7]; decide) (by rw [c7]; decide) (by rw [c7]; rfl) rfl ?_
    refine g_aload_n G dX6_has_87 rfl (lv_at hl 0 rfl) ?_
    refine g_iload_n G dX6_has_88 rfl (lv_at hl 1 rfl) ?_
    refine g_iconst (v := 4) G dX6_has_89 rfl ?_
    refine g_isub G dX6_has_90 ?_
    obtain ⟨r3, z3, h3, hf⟩ := bnd_open hf
    refine m_callVi (As := [.int (a1 - 4)]) (rest := []) X hM hl mc_thoseWho (c_thoseWho h3) rfl (Nat.le_of_ble_eq_true rfl) (Nat.le_of_ble_eq_true rfl) rfl dX6_has_91 (fun H locs hM => ?_)
    obtain ⟨r4, z4, h4, hf⟩ := bnd_open hf
    refine m_callSi (As := [.int r3]) (rest := []) X hM hl mc_bits (c_bits h4) rfl (Nat.le_of_ble_eq_true rfl) (Nat.le_of_ble_eq_true rfl) rfl dX6_has_94 (fun H locs hM => ?_)
    exact m_iret X hM hf dX6_has_97
  have hf := it_neg c7 hf
  by_cases c8 : a1 = 7
  · have hf := it_pos c8 hf
    refine g_tableIn (off := 97) (tgt := 98) G dX6_has_1 (by rw [c8]; decide) (by rw [c8]; decide) (by rw [c8]; rfl) rfl ?_
    refine g_aload_n G dX6_has_98 rfl (lv_at hl 0 rfl) ?_
    refine g_iconst (v := 0) G dX6_has_99 rfl ?_
    obtain ⟨r5, z5, h5, hf⟩ := bnd_open hf
    refine m_callVi (As := [.int (bI false)]) (rest := []) X hM hl mc_beliefs (c_beliefs h5) rfl (Nat.le_of_ble_eq_true rfl) (Nat.le_of_ble_eq_true rfl) rfl dX6_has_100 (fun H locs hM => ?_)
    exact m_iret X hM hf dX6_has_103
  have hf := it_neg c8 hf
  by_cases c9 : a1 = 8
  · have hf := it_pos c9 hf
    refine g_tableIn (off := 103) (tgt := 104) G dX6_has_1 (by rw [c9]; decide) (by rw [c9]; decide) (by rw [c9]; rfl) rfl ?_
    refine g_aload_n G dX6_has_104 rfl (lv_at hl 0 rfl) ?_
    refine mg_a X hM mf_53 dX6_has_105 ?_
    refine g_bipush (v := 41) G dX6_has_108 rfl ?_
    refine m_iald X hM (mIs.of mf_53) (by decide) dX6_has_110 ?_
    exact m_iret X hM hf dX6_has_111
  have hf := it_neg c9 hf
  by_cases c10 : a1 = 9
  · have hf := it_pos c10 hf
    refine g_tableIn (off := 111) (tgt := 112) G dX6_has_1 (by rw [c10]; decide) (by rw [c10]; decide) (by rw [c10]; rfl) rfl ?_
    refine g_aload_n G dX6_has_112 rfl (lv_at hl 0 rfl) ?_
    refine mg_i X hM mf_60 dX6_has_113 ?_
    exact m_iret X hM hf dX6_has_116
  have hf := it_neg c10 hf
  by_cases c11 : a1 = 10
  · have hf := it_pos c11 hf
    refine g_tableIn (off := 116) (tgt := 117) G dX6_has_1 (by rw [c11]; decide) (by rw [c11]; decide) (by rw [c11]; rfl) rfl ?_
    refine g_aload_n G dX6_has_117 rfl (lv_at hl 0 rfl) ?_
    refine mg_i X hM mf_65 dX6_has_118 ?_
    exact m_iret X hM hf dX6_has_121
  have hf := it_neg c11 hf
  refine g_tableOut (tgt := 122) G dX6_has_1 (by have ec1 := lv_neT c1 (a := 0) rfl; have ec2 := lv_neT c2 (a := 1) rfl; have ec3 := lv_neT c3 (a := 2) rfl; have ec4 := lv_neT c4 (a := 3) rfl; have ec5 := lv_neT c5 (a := 4) rfl; have ec6 := lv_neT c6 (a := 5) rfl; have ec7 := lv_neT c7 (a := 6) rfl; have ec8 := lv_neT c8 (a := 7) rfl; have ec9 := lv_neT c9 (a := 8) rfl; have ec10 := lv_neT c10 (a := 9) rfl; have ec11 := lv_neT c11 (a := 10) rfl; omega) rfl ?_
  refine g_iconst (v := (-1)) G dX6_has_122 rfl ?_
  exact m_iret X hM hf dX6_has_123
noncomputable def m_letter_L102 (a3 : Int32) (k122 : Int64 → MS → Option (Int32 × MS)) (s102 : Int64 → Int32 → MS → Option (Int32 × MS)) (x3 : Int64) (x4 : Int32) (z6 : MS) : Option (Int32 × MS) :=
  if x4 ≤ a3 then
    k122 x3 z6
  else
    s102 (x3 / 27) (x4 + (-1)) z6
noncomputable def m_letter_L67 (k88 : Int32 → MS → Option (Int32 × MS)) (s67 : Int32 → Int64 → MS → Option (Int32 × MS)) (x5 : Int32) (x6 : Int64) (z7 : MS) : Option (Int32 × MS) :=
  if x6 ≤ 0 then
    k88 x5 z7
  else
    s67 (x5 + 1) (x6 / 27) z7
noncomputable def m_letter (a1 : Int32) (a2 : Int32) (a3 : Int32) (z : MS) : Option (Int32 × MS) :=
  bnd (m_isIn (Int32.toInt64 a1) 0 1 z) fun r1 z1 =>
  if (bI r1) = 0 then
    some ((-1), z1)
  else
    ck (inb (2 + a1) (mN 39)) <|
    bnd (m_isIn (Int32.toInt64 a2) 0 (Int32.toInt64 ((mA z1 39 (Int32.toNatClampNeg (2 + a1))) - 1)) z1) fun r2 z2 =>
    if (bI r2) = 0 then
      some ((-1), z2)
    else
      bnd (m_isIn (Int32.toInt64 a3) 0 5 z2) fun r3 z3 =>
      if (bI r3) = 0 then
        some ((-1), z3)
      else
        ck (inb ((16 + (8 * a1)) + a2) (mN 40)) <|
        jn (fun (x1 : Int32) (z4 : MS) =>
          if a3 < x1 then
            jn (fun (x2 : Int64) (z5 : MS) =>
              some ((Int64.toInt32 (x2 - x2 / 27 * 27)), z5)) fun k122 =>
            fx (m_letter_L102 a3 k122) (fun _ _ _ => none) FU (mB z3 40 (Int32.toNatClampNeg ((16 + (8 * a1)) + a2))) (x1 - 1) z4
          else
            some (0, z4)) fun k88 =>
        fx (m_letter_L67 k88) (fun _ _ _ => none) FU 0 (mB z3 40 (Int32.toNatClampNeg ((16 + (8 * a1)) + a2))) z3
set_option maxHeartbeats 1000000 in
theorem c_letter {l : Launch} {D : MD} {o : Nat} {ad : Nat → Nat} {a1 : Int32} {a2 : Int32} {a3 : Int32} {z z' : MS} {r : Int32} (hf : m_letter a1 a2 a3 z = some (r, z')) : MMet l D o ad yX6_letter cX6_letter 9 (some .int) 2 [.ref o, .int a1, .int a2, .int a3] z z' (some (.int r)) := by
  unfold m_letter at hf
  refine m_head pnX6 rfl (Nat.le_of_ble_eq_true rfl) (fun m Z H0 ls X hM hl => ?_)
  have G := X.g
  have hl : lv_has ls 9 [(0, .ref o), (1, .int a1), (2, .int a2), (3, .int a3)] := hl
  refine g_iload_n G dX6_letter_0 rfl (lv_at hl 1 rfl) ?_
  refine g_i2l (v := Int32.toInt64 a1) G dX6_letter_1 rfl ?_
  refine g_lconst (v := 0) G dX6_letter_2 rfl ?_
  refine g_lconst (v := 1) G dX6_letter_3 rfl ?_
  obtain ⟨r1, z1, h1, hf⟩ := bnd_open hf
  refine m_callSi (As := [.long (Int32.toInt64 a1), .long 0, .long 1]) (rest := []) X hM hl mc_isIn (c_isIn h1) rfl (Nat.le_of_ble_eq_true rfl) (Nat.le_of_ble_eq_true rfl) rfl dX6_letter_4 (fun H locs hM => ?_)
  refine g_if_eq (tgt := 42) G dX6_letter_7 rfl (fun c1 => ?_) (fun c1 => ?_)
  · have hf := it_pos c1 hf
    refine g_iconst (v := (-1)) G dX6_letter_42 rfl ?_
    exact m_iret X hM hf dX6_letter_43
  · have hf := it_neg c1 hf
    refine g_iload_n G dX6_letter_10 rfl (lv_at hl 2 rfl) ?_
    refine g_i2l (v := Int32.toInt64 a2) G dX6_letter_11 rfl ?_
    refine g_lconst (v := 0) G dX6_letter_12 rfl ?_
    refine g_aload_n G dX6_letter_13 rfl (lv_at hl 0 rfl) ?_
    refine mg_a X hM mf_39 dX6_letter_14 ?_
    refine g_iconst (v := 2) G dX6_letter_17 rfl ?_
    refine g_iload_n G dX6_letter_18 rfl (lv_at hl 1 rfl) ?_
    refine g_iadd G dX6_letter_19 ?_
    obtain ⟨b1, hf⟩ := ck_open hf
    refine m_iald X hM (mIs.of mf_39) b1 dX6_letter_20 ?_
    refine g_iconst (v := 1) G dX6_letter_21 rfl ?_
    refine g_isub G dX6_letter_22 ?_
    refine g_i2l (v := Int32.toInt64 ((mA z1 39 (Int32.toNatClampNeg (2 + a1))) - 1)) G dX6_letter_23 rfl ?_
    obtain ⟨r2, z2, h2, hf⟩ := bnd_open hf
    refine m_callSi (As := [.long (Int32.toInt64 a2), .long 0, .long (Int32.toInt64 ((mA z1 39 (Int32.toNatClampNeg (2 + a1))) - 1))]) (rest := []) X hM hl mc_isIn (c_isIn h2) rfl (Nat.le_of_ble_eq_true rfl) (Nat.le_of_ble_eq_true rfl) rfl dX6_letter_24 (fun H locs hM => ?_)
    refine g_if_eq (tgt := 42) G dX6_letter_27 rfl (fun c2 => ?_) (fun c2 => ?_)
    · have hf := it_pos c2 hf
      refine g_iconst (v := (-1)) G dX6_letter_42 rfl ?_
      exact m_iret X hM hf dX6_letter_43
    · have hf := it_neg c2 hf
      refine g_iload_n G dX6_letter_30 rfl (lv_at hl 3 rfl) ?_
      refine g_i2l (v := Int32.toInt64 a3) G dX6_letter_31 rfl ?_
      refine g_lconst (v := 0) G dX6_letter_32 rfl ?_
      refine g_ldc2 G q2161 dX6_letter_33 ?_
      obtain ⟨r3, z3, h3, hf⟩ := bnd_open hf
      refine m_callSi (As := [.long (Int32.toInt64 a3), .long 0, .long 5]) (rest := []) X hM hl mc_isIn (c_isIn h3) rfl (Nat.le_of_ble_eq_true rfl) (Nat.le_of_ble_eq_true rfl) rfl dX6_letter_36 (fun H locs hM => ?_)
      refine g_if_ne (tgt := 44) G dX6_letter_39 rfl (fun c3 => ?_) (fun c3 => ?_)
      · have hf := it_neg c3 hf
        refine g_aload_n G dX6_letter_44 rfl (lv_at hl 0 rfl) ?_
        refine mg_a X hM mf_40 dX6_letter_45 ?_
        refine g_bipush (v := 16) G dX6_letter_48 rfl ?_
        refine g_bipush (v := 8) G dX6_letter_50 rfl ?_
        refine g_iload_n G dX6_letter_52 rfl (lv_at hl 1 rfl) ?_
        refine g_imul G dX6_letter_53 ?_
        refine g_iadd G dX6_letter_54 ?_
        refine g_iload_n G dX6_letter_55 rfl (lv_at hl 2 rfl) ?_
        refine g_iadd G dX6_letter_56 ?_
        obtain ⟨b2, hf⟩ := ck_open hf
        refine m_lald X hM (mIs.of mf_40) b2 dX6_letter_57 ?_
        refine g_lstore (lv' := [(4, .long (mB z3 40 (Int32.toNatClampNeg ((16 + (8 * a1)) + a2)))), (0, .ref o), (1, .int a1), (2, .int a2), (3, .int a3)]) G dX6_letter_58 hl (Nat.le_of_ble_eq_true rfl) rfl (fun ls hl => ?_)
        refine g_iconst (v := 0) G dX6_letter_60 rfl ?_
        refine g_istore (lv' := [(6, .int 0), (4, .long (mB z3 40 (Int32.toNatClampNeg ((16 + (8 * a1)) + a2)))), (0, .ref o), (1, .int a1), (2, .int a2), (3, .int a3)]) G dX6_letter_61 hl (Nat.le_of_ble_eq_true rfl) rfl (fun ls hl => ?_)
        refine g_lload G dX6_letter_63 (lv_at hl 1 rfl) ?_
        refine g_lstore (lv' := [(7, .long (mB z3 40 (Int32.toNatClampNeg ((16 + (8 * a1)) + a2)))), (6, .int 0), (4, .long (mB z3 40 (Int32.toNatClampNeg ((16 + (8 * a1)) + a2)))), (0, .ref o), (1, .int a1), (2, .int a2), (3, .int a3)]) G dX6_letter_65 hl (Nat.le_of_ble_eq_true rfl) rfl (fun ls hl => ?_)
        obtain ⟨k88, hk88, hf⟩ := jn_open hf
        have K88 : ∀ (x1 : Int32) (z4 : MS) (H : Heap) (locs : List Loc), k88 x1 z4 = some (r, z') → MI D o ad H0 z4 H locs → ∀ ls : Array Slot, lv_has ls 9 [(3, .int a3), (4, .long (mB z3 40 (Int32.toNatClampNeg ((16 + (8 * a1)) + a2)))), (6, .int x1)] → Z H locs 0 0 (F0 m 88 ls []) := by
          intro x1 z4 H locs hf hM ls hl
          rw [hk88] at hf
          refine g_iload_n G dX6_letter_88 rfl (lv_at hl 0 rfl) ?_
          refine g_iload G dX6_letter_89 (lv_at hl 2 rfl) ?_
          refine g_icmp_lt (tgt := 96) G dX6_letter_91 rfl (fun c4 => ?_) (fun c4 => ?_)
          · have hf := it_pos c4 hf
            refine g_iload G dX6_letter_96 (lv_at hl 2 rfl) ?_
            refine g_iconst (v := 1) G dX6_letter_98 rfl ?_
            refine g_isub G dX6_letter_99 ?_
            refine g_istore (lv' := [(7, .int (x1 - 1)), (3, .int a3), (4, .long (mB z3 40 (Int32.toNatClampNeg ((16 + (8 * a1)) + a2)))), (6, .int x1)]) G dX6_letter_100 hl (Nat.le_of_ble_eq_true rfl) rfl (fun ls hl => ?_)
            obtain ⟨k122, hk122, hf⟩ := jn_open hf
            have K122 : ∀ (x2 : Int64) (z5 : MS) (H : Heap) (locs : List Loc), k122 x2 z5 = some (r, z') → MI D o ad H0 z5 H locs → ∀ ls : Array Slot, lv_has ls 9 [(4, .long x2)] → Z H locs 0 0 (F0 m 122 ls []) := by
              intro x2 z5 H locs hf hM ls hl
              rw [hk122] at hf
              refine g_lload G dX6_letter_122 (lv_at hl 0 rfl) ?_
              refine g_ldc2 G q1995 dX6_letter_124 ?_
              refine g_lrem G dX6_letter_127 (by decide) ?_
              refine g_l2i (v := Int64.toInt32 (x2 - x2 / 27 * 27)) G dX6_letter_128 rfl ?_
              exact m_iret X hM hf dX6_letter_129
            have L102 : ∀ (n : Nat) (x3 : Int64) (x4 : Int32) (z6 : MS) (H : Heap) (locs : List Loc), fx (m_letter_L102 a3 k122) (fun _ _ _ => none) n x3 x4 z6 = some (r, z') → MI D o ad H0 z6 H locs → ∀ ls : Array Slot, lv_has ls 9 [(3, .int a3), (4, .long x3), (7, .int x4)] → Z H locs 0 0 (F0 m 102 ls []) := by
              intro n
              induction n with
              | zero => intro x3 x4 z6 H locs hf; exact absurd hf (by intro q; cases q)
              | succ n ih102 =>
                intro x3 x4 z6 H locs hf hM ls hl
                rw [fx_s] at hf
                generalize fx (m_letter_L102 a3 k122) (fun _ _ _ => none) n = s102 at hf ih102
                unfold m_letter_L102 at hf
                refine g_iload G dX6_letter_102 (lv_at hl 2 rfl) ?_
                refine g_iload_n G dX6_letter_104 rfl (lv_at hl 0 rfl) ?_
                refine g_icmp_le (tgt := 122) G dX6_letter_105 rfl (fun c5 => ?_) (fun c5 => ?_)
                · have hf := it_pos c5 hf
                  exact K122 _ _ _ _ hf hM ls (lv_sub hl [1] rfl)
                · have hf := it_neg c5 hf
                  refine g_lload G dX6_letter_108 (lv_at hl 1 rfl) ?_
                  refine g_ldc2 G q1995 dX6_letter_110 ?_
                  refine g_ldiv G dX6_letter_113 (by decide) ?_
                  refine g_lstore (lv' := [(4, .long (x3 / 27)), (3, .int a3), (7, .int x4)]) G dX6_letter_114 hl (Nat.le_of_ble_eq_true rfl) rfl (fun ls hl => ?_)
                  refine g_iinc (v := x4 + (-1)) (lv' := [(7, .int (x4 + (-1))), (4, .long (x3 / 27)), (3, .int a3)]) G dX6_letter_116 hl (k := 2) rfl rfl (Nat.le_of_ble_eq_true rfl) rfl (fun ls hl => ?_)
                  refine g_goto (tgt := 102) G dX6_letter_119 rfl ?_
                  exact ih102 _ _ _ _ _ hf hM ls (lv_sub hl [2, 1, 0] rfl)
            exact L102 FU _ _ _ _ _ hf hM ls (lv_sub hl [1, 2, 0] rfl)
          · have hf := it_neg c4 hf
            refine g_iconst (v := 0) G dX6_letter_94 rfl ?_
            exact m_iret X hM hf dX6_letter_95
        have L67 : ∀ (n : Nat) (x5 : Int32) (x6 : Int64) (z7 : MS) (H : Heap) (locs : List Loc), fx (m_letter_L67 k88) (fun _ _ _ => none) n x5 x6 z7 = some (r, z') → MI D o ad H0 z7 H locs → ∀ ls : Array Slot, lv_has ls 9 [(3, .int a3), (4, .long (mB z3 40 (Int32.toNatClampNeg ((16 + (8 * a1)) + a2)))), (6, .int x5), (7, .long x6)] → Z H locs 0 0 (F0 m 67 ls []) := by
          intro n
          induction n with
          | zero => intro x5 x6 z7 H locs hf; exact absurd hf (by intro q; cases q)
          | succ n ih67 =>
            intro x5 x6 z7 H locs hf hM ls hl
            rw [fx_s] at hf
            generalize fx (m_letter_L67 k88) (fun _ _ _ => none) n = s67 at hf ih67
            unfold m_letter_L67 at hf
            refine g_lload G dX6_letter_67 (lv_at hl 3 rfl) ?_
            refine g_lconst (v := 0) G dX6_letter_69 rfl ?_
            refine g_lc_le (tgt := 88) G dX6_letter_70 dX6_letter_71 rfl (fun c6 => ?_) (fun c6 => ?_)
            · have hf := it_pos c6 hf
              exact K88 _ _ _ _ hf hM ls (lv_sub hl [0, 1, 2] rfl)
            · have hf := it_neg c6 hf
              refine g_iinc (v := x5 + 1) (lv' := [(6, .int (x5 + 1)), (3, .int a3), (4, .long (mB z3 40 (Int32.toNatClampNeg ((16 + (8 * a1)) + a2)))), (7, .long x6)]) G dX6_letter_74 hl (k := 2) rfl rfl (Nat.le_of_ble_eq_true rfl) rfl (fun ls hl => ?_)
              refine g_lload G dX6_letter_77 (lv_at hl 3 rfl) ?_
              refine g_ldc2 G q1995 dX6_letter_79 ?_
              refine g_ldiv G dX6_letter_82 (by decide) ?_
              refine g_lstore (lv' := [(7, .long (x6 / 27)), (6, .int (x5 + 1)), (3, .int a3), (4, .long (mB z3 40 (Int32.toNatClampNeg ((16 + (8 * a1)) + a2))))]) G dX6_letter_83 hl (Nat.le_of_ble_eq_true rfl) rfl (fun ls hl => ?_)
              refine g_goto (tgt := 67) G dX6_letter_85 rfl ?_
              exact ih67 _ _ _ _ _ hf hM ls (lv_sub hl [2, 3, 1, 0] rfl)
        exact L67 FU _ _ _ _ _ hf hM ls (lv_sub hl [6, 2, 1, 0] rfl)
      · have hf := it_pos c3 hf
        refine g_iconst (v := (-1)) G dX6_letter_42 rfl ?_
        exact m_iret X hM hf dX6_letter_43
noncomputable def m_fact (a1 : Int32) (a2 : Int32) (z : MS) : Option (Int32 × MS) :=
  bnd (m_isFact a1 z) fun r1 z1 =>
  if (bI r1) = 0 then
    some ((-1), z1)
  else
    if a2 = 0 then
      ck (inb (8 + a1) (mN 41)) <|
      some ((mA z1 41 (Int32.toNatClampNeg (8 + a1))), z1)
    else
      if a2 = 1 then
        bnd (m_rightMany a1 z1) fun r3 z3 =>
        some (r3, z3)
      else
        if a2 = 2 then
          bnd (m_wrongMany a1 z1) fun r2 z2 =>
          some (r2, z2)
        else
          some ((-1), z1)
set_option maxHeartbeats 1000000 in
theorem c_fact {l : Launch} {D : MD} {o : Nat} {ad : Nat → Nat} {a1 : Int32} {a2 : Int32} {z z' : MS} {r : Int32} (hf : m_fact a1 a2 z = some (r, z')) : MMet l D o ad yX6_fact cX6_fact 3 (some .int) 3 [.ref o, .int a1, .int a2] z z' (some (.int r)) := by
  unfold m_fact at hf
  refine m_head pnX6 rfl (Nat.le_of_ble_eq_true rfl) (fun m Z H0 ls X hM hl => ?_)
  have G := X.g
  have hl : lv_has ls 3 [(0, .ref o), (1, .int a1), (2, .int a2)] := hl
  refine g_aload_n G dX6_fact_0 rfl (lv_at hl 0 rfl) ?_
  refine g_iload_n G dX6_fact_1 rfl (lv_at hl 1 rfl) ?_
  obtain ⟨r1, z1, h1, hf⟩ := bnd_open hf
  refine m_callVi (As := [.int a1]) (rest := []) X hM hl mc_isFact (c_isFact h1) rfl (Nat.le_of_ble_eq_true rfl) (Nat.le_of_ble_eq_true rfl) rfl dX6_fact_2 (fun H locs hM => ?_)
  refine g_if_ne (tgt := 10) G dX6_fact_5 rfl (fun c1 => ?_) (fun c1 => ?_)
  · have hf := it_neg c1 hf
    refine g_iload_n G dX6_fact_10 rfl (lv_at hl 2 rfl) ?_
    refine g_if_ne (tgt := 26) G dX6_fact_11 rfl (fun c2 => ?_) (fun c2 => ?_)
    · have hf := it_neg c2 hf
      refine g_iload_n G dX6_fact_26 rfl (lv_at hl 2 rfl) ?_
      refine g_iconst (v := 1) G dX6_fact_27 rfl ?_
      refine g_icmp_ne (tgt := 39) G dX6_fact_28 rfl (fun c3 => ?_) (fun c3 => ?_)
      · have hf := it_neg c3 hf
        refine g_iload_n G dX6_fact_39 rfl (lv_at hl 2 rfl) ?_
        refine g_iconst (v := 2) G dX6_fact_40 rfl ?_
        refine g_icmp_ne (tgt := 52) G dX6_fact_41 rfl (fun c4 => ?_) (fun c4 => ?_)
        · have hf := it_neg c4 hf
          refine g_iconst (v := (-1)) G dX6_fact_52 rfl ?_
          exact m_iret X hM hf dX6_fact_53
        · have hf := it_pos c4 hf
          refine g_aload_n G dX6_fact_44 rfl (lv_at hl 0 rfl) ?_
          refine g_iload_n G dX6_fact_45 rfl (lv_at hl 1 rfl) ?_
          obtain ⟨r2, z2, h2, hf⟩ := bnd_open hf
          refine m_callVi (As := [.int a1]) (rest := []) X hM hl mc_wrongMany (c_wrongMany h2) rfl (Nat.le_of_ble_eq_true rfl) (Nat.le_of_ble_eq_true rfl) rfl dX6_fact_46 (fun H locs hM => ?_)
          refine g_goto (tgt := 53) G dX6_fact_49 rfl ?_
          exact m_iret X hM hf dX6_fact_53
      · have hf := it_pos c3 hf
        refine g_aload_n G dX6_fact_31 rfl (lv_at hl 0 rfl) ?_
        refine g_iload_n G dX6_fact_32 rfl (lv_at hl 1 rfl) ?_
        obtain ⟨r3, z3, h3, hf⟩ := bnd_open hf
        refine m_callVi (As := [.int a1]) (rest := []) X hM hl mc_rightMany (c_rightMany h3) rfl (Nat.le_of_ble_eq_true rfl) (Nat.le_of_ble_eq_true rfl) rfl dX6_fact_33 (fun H locs hM => ?_)
        refine g_goto (tgt := 53) G dX6_fact_36 rfl ?_
        exact m_iret X hM hf dX6_fact_53
    · have hf := it_pos c2 hf
      refine g_aload_n G dX6_fact_14 rfl (lv_at hl 0 rfl) ?_
      refine mg_a X hM mf_41 dX6_fact_15 ?_
      refine g_bipush (v := 8) G dX6_fact_18 rfl ?_
      refine g_iload_n G dX6_fact_20 rfl (lv_at hl 1 rfl) ?_
      refine g_iadd G dX6_fact_21 ?_
      obtain ⟨b1, hf⟩ := ck_open hf
      refine m_iald X hM (mIs.of mf_41) b1 dX6_fact_22 ?_
      refine g_goto (tgt := 53) G dX6_fact_23 rfl ?_
      exact m_iret X hM hf dX6_fact_53
  · have hf := it_pos c1 hf
    refine g_iconst (v := (-1)) G dX6_fact_8 rfl ?_
    exact m_iret X hM hf dX6_fact_9
noncomputable def m_person (a1 : Int32) (a2 : Int32) (z : MS) : Option (Int32 × MS) :=
  bnd (m_isPerson a1 z) fun r1 z1 =>
  if (bI r1) = 0 then
    some ((-1), z1)
  else
    if a2 = 0 then
      ck (inb (8 + a1) (mN 42)) <|
      some ((mA z1 42 (Int32.toNatClampNeg (8 + a1))), z1)
    else
      if a2 = 1 then
        bnd (m_masterOf a1 z1) fun r2 z2 =>
        some (r2, z2)
      else
        if a2 = 2 then
          bnd (m_pupilsOf a1 z1) fun r3 z3 =>
          some (r3, z3)
        else
          if a2 = 3 then
            bnd (m_rightOf a1 z1) fun r4 z4 =>
            some (r4, z4)
          else
            if a2 = 4 then
              bnd (m_wrongOf a1 z1) fun r5 z5 =>
              some (r5, z5)
            else
              if a2 = 5 then
                bnd (m_leftOf a1 z1) fun r6 z6 =>
                some (r6, z6)
              else
                if a2 = 6 then
                  bnd (m_hasPassed a1 z1) fun r7 z7 =>
                  if (bI r7) = 0 then
                    some (0, z7)
                  else
                    some (1, z7)
                else
                  if a2 = 7 then
                    bnd (m_isDoctor a1 z1) fun r8 z8 =>
                    if (bI r8) = 0 then
                      some (0, z8)
                    else
                      some (1, z8)
                  else
                    some ((-1), z1)
set_option maxHeartbeats 1000000 in
theorem c_person {l : Launch} {D : MD} {o : Nat} {ad : Nat → Nat} {a1 : Int32} {a2 : Int32} {z z' : MS} {r : Int32} (hf : m_person a1 a2 z = some (r, z')) : MMet l D o ad yX6_person cX6_person 3 (some .int) 3 [.ref o, .int a1, .int a2] z z' (some (.int r)) := by
  unfold m_person at hf
  refine m_head pnX6 rfl (Nat.le_of_ble_eq_true rfl) (fun m Z H0 ls X hM hl => ?_)
  have G := X.g
  have hl : lv_has ls 3 [(0, .ref o), (1, .int a1), (2, .int a2)] := hl
  refine g_aload_n G dX6_person_0 rfl (lv_at hl 0 rfl) ?_
  refine g_iload_n G dX6_person_1 rfl (lv_at hl 1 rfl) ?_
  obtain ⟨r1, z1, h1, hf⟩ := bnd_open hf
  refine m_callVi (As := [.int a1]) (rest := []) X hM hl mc_isPerson (c_isPerson h1) rfl (Nat.le_of_ble_eq_true rfl) (Nat.le_of_ble_eq_true rfl) rfl dX6_person_2 (fun H locs hM => ?_)
  refine g_if_ne (tgt := 10) G dX6_person_5 rfl (fun c1 => ?_) (fun c1 => ?_)
  · have hf := it_neg c1 hf
    refine g_iload_n G dX6_person_10 rfl (lv_at hl 2 rfl) ?_
    by_cases c2 : a2 = 0
    · have hf := it_pos c2 hf
      refine g_tableIn (off := 45) (tgt := 56) G dX6_person_11 (by rw [c2]; decide) (by rw [c2]; decide) (by rw [c2]; rfl) rfl ?_
      refine g_aload_n G dX6_person_56 rfl (lv_at hl 0 rfl) ?_
      refine mg_a X hM mf_42 dX6_person_57 ?_
      refine g_bipush (v := 8) G dX6_person_60 rfl ?_
      refine g_iload_n G dX6_person_62 rfl (lv_at hl 1 rfl) ?_
      refine g_iadd G dX6_person_63 ?_
      obtain ⟨b1, hf⟩ := ck_open hf
      refine m_iald X hM (mIs.of mf_42) b1 dX6_person_64 ?_
      exact m_iret X hM hf dX6_person_65
    have hf := it_neg c2 hf
    by_cases c3 : a2 = 1
    · have hf := it_pos c3 hf
      refine g_tableIn (off := 55) (tgt := 66) G dX6_person_11 (by rw [c3]; decide) (by rw [c3]; decide) (by rw [c3]; rfl) rfl ?_
      refine g_aload_n G dX6_person_66 rfl (lv_at hl 0 rfl) ?_
      refine g_iload_n G dX6_person_67 rfl (lv_at hl 1 rfl) ?_
      obtain ⟨r2, z2, h2, hf⟩ := bnd_open hf
      refine m_callVi (As := [.int a1]) (rest := []) X hM hl mc_masterOf (c_masterOf h2) rfl (Nat.le_of_ble_eq_true rfl) (Nat.le_of_ble_eq_true rfl) rfl dX6_person_68 (fun H locs hM => ?_)
      exact m_iret X hM hf dX6_person_71
    have hf := it_neg c3 hf
    by_cases c4 : a2 = 2
    · have hf := it_pos c4 hf
      refine g_tableIn (off := 61) (tgt := 72) G dX6_person_11 (by rw [c4]; decide) (by rw [c4]; decide) (by rw [c4]; rfl) rfl ?_
      refine g_aload_n G dX6_person_72 rfl (lv_at hl 0 rfl) ?_
      refine g_iload_n G dX6_person_73 rfl (lv_at hl 1 rfl) ?_
      obtain ⟨r3, z3, h3, hf⟩ := bnd_open hf
      refine m_callVi (As := [.int a1]) (rest := []) X hM hl mc_pupilsOf (c_pupilsOf h3) rfl (Nat.le_of_ble_eq_true rfl) (Nat.le_of_ble_eq_true rfl) rfl dX6_person_74 (fun H locs hM => ?_)
      exact m_iret X hM hf dX6_person_77
    have hf := it_neg c4 hf
    by_cases c5 : a2 = 3
    · have hf := it_pos c5 hf
      refine g_tableIn (off := 67) (tgt := 78) G dX6_person_11 (by rw [c5]; decide) (by rw [c5]; decide) (by rw [c5]; rfl) rfl ?_
      refine g_aload_n G dX6_person_78 rfl (lv_at hl 0 rfl) ?_
      refine g_iload_n G dX6_person_79 rfl (lv_at hl 1 rfl) ?_
      obtain ⟨r4, z4, h4, hf⟩ := bnd_open hf
      refine m_callVi (As := [.int a1]) (rest := []) X hM hl mc_rightOf (c_rightOf h4) rfl (Nat.le_of_ble_eq_true rfl) (Nat.le_of_ble_eq_true rfl) rfl dX6_person_80 (fun H locs hM => ?_)
      exact m_iret X hM hf dX6_person_83
    have hf := it_neg c5 hf
    by_cases c6 : a2 = 4
    · have hf := it_pos c6 hf
      refine g_tableIn (off := 73) (tgt := 84) G dX6_person_11 (by rw [c6]; decide) (by rw [c6]; decide) (by rw [c6]; rfl) rfl ?_
      refine g_aload_n G dX6_person_84 rfl (lv_at hl 0 rfl) ?_
      refine g_iload_n G dX6_person_85 rfl (lv_at hl 1 rfl) ?_
      obtain ⟨r5, z5, h5, hf⟩ := bnd_open hf
      refine m_callVi (As := [.int a1]) (rest := []) X hM hl mc_wrongOf (c_wrongOf h5) rfl (Nat.le_of_ble_eq_true rfl) (Nat.le_of_ble_eq_true rfl) rfl dX6_person_86 (fun H locs hM => ?_)
      exact m_iret X hM hf dX6_person_89
    have hf := it_neg c6 hf
    by_cases c7 : a2 = 5
    · have hf := it_pos c7 hf
      refine g_tableIn (off := 79) (tgt := 90) G dX6_person_11 (by rw [c7]; decide) (by rw [c7]; decide) (by rw [c7]; rfl) rfl ?_
      refine g_aload_n G dX6_person_90 rfl (lv_at hl 0 rfl) ?_
      refine g_iload_n G dX6_person_91 rfl (lv_at hl 1 rfl) ?_
      obtain ⟨r6, z6, h6, hf⟩ := bnd_open hf
      refine m_callVi (As := [.int a1]) (rest := []) X hM hl mc_leftOf (c_leftOf h6) rfl (Nat.le_of_ble_eq_true rfl) (Nat.le_of_ble_eq_true rfl) rfl dX6_person_92 (fun H locs hM => ?_)
      exact m_iret X hM hf dX6_person_95
    have hf := it_neg c7 hf
    by_cases c8 : a2 = 6
    · have hf := it_pos c8 hf
      refine g_tableIn (off := 85) (tgt := 96) G dX6_person_11 (by rw [c8]; decide) (by rw [c8]; decide) (by rw [c8]; rfl) rfl ?_
      refine g_aload_n G dX6_person_96 rfl (lv_at hl 0 rfl) ?_
      refine g_iload_n G dX6_person_97 rfl (lv_at hl 1 rfl) ?_
      obtain ⟨r7, z7, h7, hf⟩ := bnd_open hf
      refine m_callVi (As := [.int a1]) (rest := []) X hM hl mc_hasPassed (c_hasPassed h7) rfl (Nat.le_of_ble_eq_true rfl) (Nat.le_of_ble_eq_true rfl) rfl dX6_person_98 (fun H locs hM => ?_)
      refine g_if_eq (tgt := 108) G dX6_person_101 rfl (fun c9 => ?_) (fun c9 => ?_)
      · have hf := it_pos c9 hf
        refine g_iconst (v := 0) G dX6_person_108 rfl ?_
        exact m_iret X hM hf dX6_person_109
      · have hf := it_neg c9 hf
        refine g_iconst (v := 1) G dX6_person_104 rfl ?_
        refine g_goto (tgt := 109) G dX6_person_105 rfl ?_
        exact m_iret X hM hf dX6_person_109
    have hf := it_neg c8 hf
    by_cases c10 : a2 = 7
    · have hf := it_pos c10 hf
      refine g_tableIn (off := 99) (tgt := 110) G dX6_person_11 (by rw [c10]; decide) (by rw [c10]; decide) (by rw [c10]; rfl) rfl ?_
      refine g_aload_n G dX6_person_110 rfl (lv_at hl 0 rfl) ?_
      refine g_iload_n G dX6_person_111 rfl (lv_at hl 1 rfl) ?_
      obtain ⟨r8, z8, h8, hf⟩ := bnd_open hf
      refine m_callVi (As := [.int a1]) (rest := []) X hM hl mc_isDoctor (c_isDoctor h8) rfl (Nat.le_of_ble_eq_true rfl) (Nat.le_of_ble_eq_true rfl) rfl dX6_person_112 (fun H locs hM => ?_)
      refine g_if_eq (tgt := 122) G dX6_person_115 rfl (fun c11 => ?_) (fun c11 => ?_)
      · have hf := it_pos c11 hf
        refine g_iconst (v := 0) G dX6_person_122 rfl ?_
        exact m_iret X hM hf dX6_person_123
      · have hf := it_neg c11 hf
        refine g_iconst (v := 1) G dX6_person_118 rfl ?_
        refine g_goto (tgt := 123) G dX6_person_119 rfl ?_
        exact m_iret X hM hf dX6_person_123
    have hf := it_neg c10 hf
    refine g_tableOut (tgt := 124) G dX6_person_11 (by have ec2 := lv_neT c2 (a := 0) rfl; have ec3 := lv_neT c3 (a := 1) rfl; have ec4 := lv_neT c4 (a := 2) rfl; have ec5 := lv_neT c5 (a := 3) rfl; have ec6 := lv_neT c6 (a := 4) rfl; have ec7 := lv_neT c7 (a := 5) rfl; have ec8 := lv_neT c8 (a := 6) rfl; have ec10 := lv_neT c10 (a := 7) rfl; omega) rfl ?_
    refine g_iconst (v := (-1)) G dX6_person_124 rfl ?_
    exact m_iret X hM hf dX6_person_125
  · have hf := it_pos c1 hf
    refine g_iconst (v := (-1)) G dX6_person_8 rfl ?_
    exact m_iret X hM hf dX6_person_9
noncomputable def m_marks (a1 : Int32) (z : MS) : Option (Int64 × MS) :=
  bnd (m_isPerson a1 z) fun r1 z1 =>
  if (bI r1) = 0 then
    some (((-1000000000000000)), z1)
  else
    bnd (m_marksOf a1 z1) fun r2 z2 =>
    some ((Int32.toInt64 r2), z2)
set_option maxHeartbeats 1000000 in
theorem c_marks {l : Launch} {D : MD} {o : Nat} {ad : Nat → Nat} {a1 : Int32} {z z' : MS} {r : Int64} (hf : m_marks a1 z = some (r, z')) : MMet l D o ad yX6_marks cX6_marks 2 (some .long) 3 [.ref o, .int a1] z z' (some (.long r)) := by
  unfold m_marks at hf
  refine m_head pnX6 rfl (Nat.le_of_ble_eq_true rfl) (fun m Z H0 ls X hM hl => ?_)
  have G := X.g
  have hl : lv_has ls 2 [(0, .ref o), (1, .int a1)] := hl
  refine g_aload_n G dX6_marks_0 rfl (lv_at hl 0 rfl) ?_
  refine g_iload_n G dX6_marks_1 rfl (lv_at hl 1 rfl) ?_
  obtain ⟨r1, z1, h1, hf⟩ := bnd_open hf
  refine m_callVi (As := [.int a1]) (rest := []) X hM hl mc_isPerson (c_isPerson h1) rfl (Nat.le_of_ble_eq_true rfl) (Nat.le_of_ble_eq_true rfl) rfl dX6_marks_2 (fun H locs hM => ?_)
  refine g_if_eq (tgt := 17) G dX6_marks_5 rfl (fun c1 => ?_) (fun c1 => ?_)
  · have hf := it_pos c1 hf
    refine g_ldc2 G q2218 dX6_marks_17 ?_
    exact m_lret X hM hf dX6_marks_20
  · have hf := it_neg c1 hf
    refine g_aload_n G dX6_marks_8 rfl (lv_at hl 0 rfl) ?_
    refine g_iload_n G dX6_marks_9 rfl (lv_at hl 1 rfl) ?_
    obtain ⟨r2, z2, h2, hf⟩ := bnd_open hf
    refine m_callVi (As := [.int a1]) (rest := []) X hM hl mc_marksOf (c_marksOf h2) rfl (Nat.le_of_ble_eq_true rfl) (Nat.le_of_ble_eq_true rfl) rfl dX6_marks_10 (fun H locs hM => ?_)
    refine g_i2l (v := Int32.toInt64 r2) G dX6_marks_13 rfl ?_
    refine g_goto (tgt := 20) G dX6_marks_14 rfl ?_
    exact m_lret X hM hf dX6_marks_20
noncomputable def m_next (a1 : Int32) (z : MS) : Option (Int32 × MS) :=
  bnd (m_isPerson a1 z) fun r1 z1 =>
  if (bI r1) = 0 then
    some ((-1), z1)
  else
    bnd (m_taughtNext a1 z1) fun r2 z2 =>
    some (r2, z2)
set_option maxHeartbeats 1000000 in
theorem c_next {l : Launch} {D : MD} {o : Nat} {ad : Nat → Nat} {a1 : Int32} {z z' : MS} {r : Int32} (hf : m_next a1 z = some (r, z')) : MMet l D o ad yX6_next cX6_next 2 (some .int) 6 [.ref o, .int a1] z z' (some (.int r)) := by
  unfold m_next at hf
  refine m_head pnX6 rfl (Nat.le_of_ble_eq_true rfl) (fun m Z H0 ls X hM hl => ?_)
  have G := X.g
  have hl : lv_has ls 2 [(0, .ref o), (1, .int a1)] := hl
  refine g_aload_n G dX6_next_0 rfl (lv_at hl 0 rfl) ?_
  refine g_iload_n G dX6_next_1 rfl (lv_at hl 1 rfl) ?_
  obtain ⟨r1, z1, h1, hf⟩ := bnd_open hf
  refine m_callVi (As := [.int a1]) (rest := []) X hM hl mc_isPerson (c_isPerson h1) rfl (Nat.le_of_ble_eq_true rfl) (Nat.le_of_ble_eq_true rfl) rfl dX6_next_2 (fun H locs hM => ?_)
  refine g_if_eq (tgt := 16) G dX6_next_5 rfl (fun c1 => ?_) (fun c1 => ?_)
  · have hf := it_pos c1 hf
    refine g_iconst (v := (-1)) G dX6_next_16 rfl ?_
    exact m_iret X hM hf dX6_next_17
  · have hf := it_neg c1 hf
    refine g_aload_n G dX6_next_8 rfl (lv_at hl 0 rfl) ?_
    refine g_iload_n G dX6_next_9 rfl (lv_at hl 1 rfl) ?_
    obtain ⟨r2, z2, h2, hf⟩ := bnd_open hf
    refine m_callVi (As := [.int a1]) (rest := []) X hM hl mc_taughtNext (c_taughtNext h2) rfl (Nat.le_of_ble_eq_true rfl) (Nat.le_of_ble_eq_true rfl) rfl dX6_next_10 (fun H locs hM => ?_)
    refine g_goto (tgt := 17) G dX6_next_13 rfl ?_
    exact m_iret X hM hf dX6_next_17
noncomputable def m_kept (a1 : Int32) (a2 : Int32) (z : MS) : Option (Int32 × MS) :=
  bnd (m_isIn (Int32.toInt64 a1) 0 (Int32.toInt64 ((mA z 53 (Int32.toNatClampNeg 41)) - 1)) z) fun r1 z1 =>
  jn (fun (z2 : MS) =>
    some ((-1), z2)) fun j47 =>
  if (bI r1) = 0 then
    j47 z1
  else
    bnd (m_isIn (Int32.toInt64 a2) 0 2 z1) fun r2 z3 =>
    if (bI r2) = 0 then
      j47 z3
    else
      ck (inb ((42 + (3 * a1)) + a2) (mN 53)) <|
      some ((mA z3 53 (Int32.toNatClampNeg ((42 + (3 * a1)) + a2))), z3)
set_option maxHeartbeats 1000000 in
theorem c_kept {l : Launch} {D : MD} {o : Nat} {ad : Nat → Nat} {a1 : Int32} {a2 : Int32} {z z' : MS} {r : Int32} (hf : m_kept a1 a2 z = some (r, z')) : MMet l D o ad yX6_kept cX6_kept 3 (some .int) 2 [.ref o, .int a1, .int a2] z z' (some (.int r)) := by
  unfold m_kept at hf
  refine m_head pnX6 rfl (Nat.le_of_ble_eq_true rfl) (fun m Z H0 ls X hM hl => ?_)
  have G := X.g
  have hl : lv_has ls 3 [(0, .ref o), (1, .int a1), (2, .int a2)] := hl
  refine g_iload_n G dX6_kept_0 rfl (lv_at hl 1 rfl) ?_
  refine g_i2l (v := Int32.toInt64 a1) G dX6_kept_1 rfl ?_
  refine g_lconst (v := 0) G dX6_kept_2 rfl ?_
  refine g_aload_n G dX6_kept_3 rfl (lv_at hl 0 rfl) ?_
  refine mg_a X hM mf_53 dX6_kept_4 ?_
  refine g_bipush (v := 41) G dX6_kept_7 rfl ?_
  refine m_iald X hM (mIs.of mf_53) (by decide) dX6_kept_9 ?_
  refine g_iconst (v := 1) G dX6_kept_10 rfl ?_
  refine g_isub G dX6_kept_11 ?_
  refine g_i2l (v := Int32.toInt64 ((mA z 53 (Int32.toNatClampNeg 41)) - 1)) G dX6_kept_12 rfl ?_
  obtain ⟨r1, z1, h1, hf⟩ := bnd_open hf
  refine m_callSi (As := [.long (Int32.toInt64 a1), .long 0, .long (Int32.toInt64 ((mA z 53 (Int32.toNatClampNeg 41)) - 1))]) (rest := []) X hM hl mc_isIn (c_isIn h1) rfl (Nat.le_of_ble_eq_true rfl) (Nat.le_of_ble_eq_true rfl) rfl dX6_kept_13 (fun H locs hM => ?_)
  obtain ⟨j47, hj47, hf⟩ := jn_open hf
  have J47 : ∀ (z2 : MS) (H : Heap) (locs : List Loc), j47 z2 = some (r, z') → MI D o ad H0 z2 H locs → ∀ ls : Array Slot, lv_has ls 3 [] → Z H locs 0 0 (F0 m 47 ls []) := by
    intro z2 H locs hf hM ls hl
    rw [hj47] at hf
    refine g_iconst (v := (-1)) G dX6_kept_47 rfl ?_
    exact m_iret X hM hf dX6_kept_48
  refine g_if_eq (tgt := 47) G dX6_kept_16 rfl (fun c1 => ?_) (fun c1 => ?_)
  · have hf := it_pos c1 hf
    exact J47 _ _ _ hf hM ls (lv_sub hl [] rfl)
  · have hf := it_neg c1 hf
    refine g_iload_n G dX6_kept_19 rfl (lv_at hl 2 rfl) ?_
    refine g_i2l (v := Int32.toInt64 a2) G dX6_kept_20 rfl ?_
    refine g_lconst (v := 0) G dX6_kept_21 rfl ?_
    refine g_ldc2 G q2259 dX6_kept_22 ?_
    obtain ⟨r2, z3, h2, hf⟩ := bnd_open hf
    refine m_callSi (As := [.long (Int32.toInt64 a2), .long 0, .long 2]) (rest := []) X hM hl mc_isIn (c_isIn h2) rfl (Nat.le_of_ble_eq_true rfl) (Nat.le_of_ble_eq_true rfl) rfl dX6_kept_25 (fun H locs hM => ?_)
    refine g_if_eq (tgt := 47) G dX6_kept_28 rfl (fun c2 => ?_) (fun c2 => ?_)
    · have hf := it_pos c2 hf
      exact J47 _ _ _ hf hM ls (lv_sub hl [] rfl)
    · have hf := it_neg c2 hf
      refine g_aload_n G dX6_kept_31 rfl (lv_at hl 0 rfl) ?_
      refine mg_a X hM mf_53 dX6_kept_32 ?_
      refine g_bipush (v := 42) G dX6_kept_35 rfl ?_
      refine g_iconst (v := 3) G dX6_kept_37 rfl ?_
      refine g_iload_n G dX6_kept_38 rfl (lv_at hl 1 rfl) ?_
      refine g_imul G dX6_kept_39 ?_
      refine g_iadd G dX6_kept_40 ?_
      refine g_iload_n G dX6_kept_41 rfl (lv_at hl 2 rfl) ?_
      refine g_iadd G dX6_kept_42 ?_
      obtain ⟨b1, hf⟩ := ck_open hf
      refine m_iald X hM (mIs.of mf_53) b1 dX6_kept_43 ?_
      refine g_goto (tgt := 48) G dX6_kept_44 rfl ?_
      exact m_iret X hM hf dX6_kept_48
noncomputable def m_later (a1 : Int32) (a2 : Int32) (z : MS) : Option (Int32 × MS) :=
  bnd (m_isAhead a1 0 40 z) fun r1 z1 =>
  if (bI r1) = 0 then
    some ((-1), z1)
  else
    bnd (m_isIn (Int32.toInt64 a2) 0 3 z1) fun r2 z2 =>
    if (bI r2) = 0 then
      some ((-1), z2)
    else
      bnv (m_putsAside z2) fun z3 =>
      bnv (m_yearsGo a1 z3) fun z4 =>
      jn (fun (x1 : Int32) (z5 : MS) =>
        bnv (m_takesBack z5) fun z6 =>
        some (x1, z6)) fun j63 =>
      if 2 ≤ a2 then
        jn (fun (x2 : Bool) (z7 : MS) =>
          bnd (m_beliefs x2 z7) fun r3 z8 =>
          j63 r3 z8) fun j60 =>
        if a2 = 3 then
          j60 true z4
        else
          j60 false z4
      else
        bnd (m_thoseWho (a2 + 1) z4) fun r4 z9 =>
        j63 r4 z9
set_option maxHeartbeats 1000000 in
theorem c_later {l : Launch} {D : MD} {o : Nat} {ad : Nat → Nat} {a1 : Int32} {a2 : Int32} {z z' : MS} {r : Int32} (hf : m_later a1 a2 z = some (r, z')) : MMet l D o ad yX6_later cX6_later 4 (some .int) 9 [.ref o, .int a1, .int a2] z z' (some (.int r)) := by
  unfold m_later at hf
  refine m_head pnX6 rfl (Nat.le_of_ble_eq_true rfl) (fun m Z H0 ls X hM hl => ?_)
  have G := X.g
  have hl : lv_has ls 4 [(0, .ref o), (1, .int a1), (2, .int a2)] := hl
  refine g_aload_n G dX6_later_0 rfl (lv_at hl 0 rfl) ?_
  refine g_iload_n G dX6_later_1 rfl (lv_at hl 1 rfl) ?_
  refine g_iconst (v := 0) G dX6_later_2 rfl ?_
  refine g_bipush (v := 40) G dX6_later_3 rfl ?_
  obtain ⟨r1, z1, h1, hf⟩ := bnd_open hf
  refine m_callVi (As := [.int a1, .int 0, .int 40]) (rest := []) X hM hl mc_isAhead (c_isAhead h1) rfl (Nat.le_of_ble_eq_true rfl) (Nat.le_of_ble_eq_true rfl) rfl dX6_later_5 (fun H locs hM => ?_)
  refine g_if_eq (tgt := 23) G dX6_later_8 rfl (fun c1 => ?_) (fun c1 => ?_)
  · have hf := it_pos c1 hf
    refine g_iconst (v := (-1)) G dX6_later_23 rfl ?_
    exact m_iret X hM hf dX6_later_24
  · have hf := it_neg c1 hf
    refine g_iload_n G dX6_later_11 rfl (lv_at hl 2 rfl) ?_
    refine g_i2l (v := Int32.toInt64 a2) G dX6_later_12 rfl ?_
    refine g_lconst (v := 0) G dX6_later_13 rfl ?_
    refine g_ldc2 G q2268 dX6_later_14 ?_
    obtain ⟨r2, z2, h2, hf⟩ := bnd_open hf
    refine m_callSi (As := [.long (Int32.toInt64 a2), .long 0, .long 3]) (rest := []) X hM hl mc_isIn (c_isIn h2) rfl (Nat.le_of_ble_eq_true rfl) (Nat.le_of_ble_eq_true rfl) rfl dX6_later_17 (fun H locs hM => ?_)
    refine g_if_ne (tgt := 25) G dX6_later_20 rfl (fun c2 => ?_) (fun c2 => ?_)
    · have hf := it_neg c2 hf
      refine g_aload_n G dX6_later_25 rfl (lv_at hl 0 rfl) ?_
      obtain ⟨z3, h3, hf⟩ := bnv_open hf
      refine m_callVv (As := []) (rest := []) X hM hl mc_putsAside (c_putsAside h3) rfl (Nat.le_of_ble_eq_true rfl) (Nat.le_of_ble_eq_true rfl) rfl dX6_later_26 (fun H locs hM => ?_)
      refine g_aload_n G dX6_later_29 rfl (lv_at hl 0 rfl) ?_
      refine g_iload_n G dX6_later_30 rfl (lv_at hl 1 rfl) ?_
      obtain ⟨z4, h4, hf⟩ := bnv_open hf
      refine m_callVv (As := [.int a1]) (rest := []) X hM hl mc_yearsGo (c_yearsGo h4) rfl (Nat.le_of_ble_eq_true rfl) (Nat.le_of_ble_eq_true rfl) rfl dX6_later_31 (fun H locs hM => ?_)
      refine g_iload_n G dX6_later_34 rfl (lv_at hl 2 rfl) ?_
      refine g_iconst (v := 2) G dX6_later_35 rfl ?_
      obtain ⟨j63, hj63, hf⟩ := jn_open hf
      have J63 : ∀ (x1 : Int32) (z5 : MS) (H : Heap) (locs : List Loc), j63 x1 z5 = some (r, z') → MI D o ad H0 z5 H locs → ∀ ls : Array Slot, lv_has ls 4 [(0, .ref o)] → Z H locs 0 0 (F0 m 63 ls [.int x1]) := by
        intro x1 z5 H locs hf hM ls hl
        rw [hj63] at hf
        refine g_istore_n (lv' := [(3, .int x1), (0, .ref o)]) G dX6_later_63 rfl hl (Nat.le_of_ble_eq_true rfl) rfl (fun ls hl => ?_)
        refine g_aload_n G dX6_later_64 rfl (lv_at hl 1 rfl) ?_
        obtain ⟨z6, h5, hf⟩ := bnv_open hf
        refine m_callVv (As := []) (rest := []) X hM hl mc_takesBack (c_takesBack h5) rfl (Nat.le_of_ble_eq_true rfl) (Nat.le_of_ble_eq_true rfl) rfl dX6_later_65 (fun H locs hM => ?_)
        refine g_iload_n G dX6_later_68 rfl (lv_at hl 0 rfl) ?_
        exact m_iret X hM hf dX6_later_69
      refine g_icmp_ge (tgt := 49) G dX6_later_36 rfl (fun c3 => ?_) (fun c3 => ?_)
      · have hf := it_pos c3 hf
        refine g_aload_n G dX6_later_49 rfl (lv_at hl 0 rfl) ?_
        refine g_iload_n G dX6_later_50 rfl (lv_at hl 2 rfl) ?_
        refine g_iconst (v := 3) G dX6_later_51 rfl ?_
        obtain ⟨j60, hj60, hf⟩ := jn_open hf
        have J60 : ∀ (x2 : Bool) (z7 : MS) (H : Heap) (locs : List Loc), j60 x2 z7 = some (r, z') → MI D o ad H0 z7 H locs → ∀ ls : Array Slot, lv_has ls 4 [(0, .ref o)] → Z H locs 0 0 (F0 m 60 ls [.int (bI x2), .ref o]) := by
          intro x2 z7 H locs hf hM ls hl
          rw [hj60] at hf
          obtain ⟨r3, z8, h6, hf⟩ := bnd_open hf
          refine m_callVi (As := [.int (bI x2)]) (rest := []) X hM hl mc_beliefs (c_beliefs h6) rfl (Nat.le_of_ble_eq_true rfl) (Nat.le_of_ble_eq_true rfl) rfl dX6_later_60 (fun H locs hM => ?_)
          exact J63 _ _ _ _ hf hM ls (lv_sub hl [0] rfl)
        refine g_icmp_ne (tgt := 59) G dX6_later_52 rfl (fun c4 => ?_) (fun c4 => ?_)
        · have hf := it_neg c4 hf
          refine g_iconst (v := 0) G dX6_later_59 rfl ?_
          exact J60 _ _ _ _ hf hM ls (lv_sub hl [0] rfl)
        · have hf := it_pos c4 hf
          refine g_iconst (v := 1) G dX6_later_55 rfl ?_
          refine g_goto (tgt := 60) G dX6_later_56 rfl ?_
          exact J60 _ _ _ _ hf hM ls (lv_sub hl [0] rfl)
      · have hf := it_neg c3 hf
        refine g_aload_n G dX6_later_39 rfl (lv_at hl 0 rfl) ?_
        refine g_iload_n G dX6_later_40 rfl (lv_at hl 2 rfl) ?_
        refine g_iconst (v := 1) G dX6_later_41 rfl ?_
        refine g_iadd G dX6_later_42 ?_
        obtain ⟨r4, z9, h7, hf⟩ := bnd_open hf
        refine m_callVi (As := [.int (a2 + 1)]) (rest := []) X hM hl mc_thoseWho (c_thoseWho h7) rfl (Nat.le_of_ble_eq_true rfl) (Nat.le_of_ble_eq_true rfl) rfl dX6_later_43 (fun H locs hM => ?_)
        refine g_goto (tgt := 63) G dX6_later_46 rfl ?_
        exact J63 _ _ _ _ hf hM ls (lv_sub hl [0] rfl)
    · have hf := it_pos c2 hf
      refine g_iconst (v := (-1)) G dX6_later_23 rfl ?_
      exact m_iret X hM hf dX6_later_24
noncomputable def m_doctor_L16 (a1 : Int32) (k53 : Int32 → MS → Option (Int32 × MS)) (s16 : Int32 → MS → Option (Int32 × MS)) (x2 : Int32) (z6 : MS) : Option (Int32 × MS) :=
  bnd (m_isDoctor a1 z6) fun r3 z7 =>
  if (bI r3) = 0 then
    if 40 ≤ x2 then
      k53 x2 z7
    else
      if 999 ≤ (mA z7 53 (Int32.toNatClampNeg 0)) then
        k53 x2 z7
      else
        bnv (m_yearGoes 0 z7) fun z8 =>
        s16 (x2 + 1) z8
  else
    k53 x2 z7
noncomputable def m_doctor (a1 : Int32) (z : MS) : Option (Int32 × MS) :=
  bnd (m_isPerson a1 z) fun r1 z1 =>
  if (bI r1) = 0 then
    some ((-1), z1)
  else
    bnv (m_putsAside z1) fun z2 =>
    jn (fun (x1 : Int32) (z3 : MS) =>
      bnd (m_isDoctor a1 z3) fun r2 z4 =>
      bnv (m_takesBack z4) fun z5 =>
      if (bI r2) = 0 then
        some ((-1), z5)
      else
        some (x1, z5)) fun k53 =>
    fx (m_doctor_L16 a1 k53) (fun _ _ => none) FU 0 z2
set_option maxHeartbeats 1000000 in
theorem c_doctor {l : Launch} {D : MD} {o : Nat} {ad : Nat → Nat} {a1 : Int32} {z z' : MS} {r : Int32} (hf : m_doctor a1 z = some (r, z')) : MMet l D o ad yX6_doctor cX6_doctor 4 (some .int) 8 [.ref o, .int a1] z z' (some (.int r)) := by
  unfold m_doctor at hf
  refine m_head pnX6 rfl (Nat.le_of_ble_eq_true rfl) (fun m Z H0 ls X hM hl => ?_)
  have G := X.g
  have hl : lv_has ls 4 [(0, .ref o), (1, .int a1)] := hl
  refine g_aload_n G dX6_doctor_0 rfl (lv_at hl 0 rfl) ?_
  refine g_iload_n G dX6_doctor_1 rfl (lv_at hl 1 rfl) ?_
  obtain ⟨r1, z1, h1, hf⟩ := bnd_open hf
  refine m_callVi (As := [.int a1]) (rest := []) X hM hl mc_isPerson (c_isPerson h1) rfl (Nat.le_of_ble_eq_true rfl) (Nat.le_of_ble_eq_true rfl) rfl dX6_doctor_2 (fun H locs hM => ?_)
  refine g_if_ne (tgt := 10) G dX6_doctor_5 rfl (fun c1 => ?_) (fun c1 => ?_)
  · have hf := it_neg c1 hf
    refine g_aload_n G dX6_doctor_10 rfl (lv_at hl 0 rfl) ?_
    obtain ⟨z2, h2, hf⟩ := bnv_open hf
    refine m_callVv (As := []) (rest := []) X hM hl mc_putsAside (c_putsAside h2) rfl (Nat.le_of_ble_eq_true rfl) (Nat.le_of_ble_eq_true rfl) rfl dX6_doctor_11 (fun H locs hM => ?_)
    refine g_iconst (v := 0) G dX6_doctor_14 rfl ?_
    refine g_istore_n (lv' := [(2, .int 0), (0, .ref o), (1, .int a1)]) G dX6_doctor_15 rfl hl (Nat.le_of_ble_eq_true rfl) rfl (fun ls hl => ?_)
    obtain ⟨k53, hk53, hf⟩ := jn_open hf
    have K53 : ∀ (x1 : Int32) (z3 : MS) (H : Heap) (locs : List Loc), k53 x1 z3 = some (r, z') → MI D o ad H0 z3 H locs → ∀ ls : Array Slot, lv_has ls 4 [(0, .ref o), (1, .int a1), (2, .int x1)] → Z H locs 0 0 (F0 m 53 ls []) := by
      intro x1 z3 H locs hf hM ls hl
      rw [hk53] at hf
      refine g_aload_n G dX6_doctor_53 rfl (lv_at hl 0 rfl) ?_
      refine g_iload_n G dX6_doctor_54 rfl (lv_at hl 1 rfl) ?_
      obtain ⟨r2, z4, h3, hf⟩ := bnd_open hf
      refine m_callVi (As := [.int a1]) (rest := []) X hM hl mc_isDoctor (c_isDoctor h3) rfl (Nat.le_of_ble_eq_true rfl) (Nat.le_of_ble_eq_true rfl) rfl dX6_doctor_55 (fun H locs hM => ?_)
      refine g_istore_n (lv' := [(3, .int (bI r2)), (0, .ref o), (1, .int a1), (2, .int x1)]) G dX6_doctor_58 rfl hl (Nat.le_of_ble_eq_true rfl) rfl (fun ls hl => ?_)
      refine g_aload_n G dX6_doctor_59 rfl (lv_at hl 1 rfl) ?_
      obtain ⟨z5, h4, hf⟩ := bnv_open hf
      refine m_callVv (As := []) (rest := []) X hM hl mc_takesBack (c_takesBack h4) rfl (Nat.le_of_ble_eq_true rfl) (Nat.le_of_ble_eq_true rfl) rfl dX6_doctor_60 (fun H locs hM => ?_)
      refine g_iload_n G dX6_doctor_63 rfl (lv_at hl 0 rfl) ?_
      refine g_if_eq (tgt := 71) G dX6_doctor_64 rfl (fun c2 => ?_) (fun c2 => ?_)
      · have hf := it_pos c2 hf
        refine g_iconst (v := (-1)) G dX6_doctor_71 rfl ?_
        exact m_iret X hM hf dX6_doctor_72
      · have hf := it_neg c2 hf
        refine g_iload_n G dX6_doctor_67 rfl (lv_at hl 3 rfl) ?_
        refine g_goto (tgt := 72) G dX6_doctor_68 rfl ?_
        exact m_iret X hM hf dX6_doctor_72
    have L16 : ∀ (n : Nat) (x2 : Int32) (z6 : MS) (H : Heap) (locs : List Loc), fx (m_doctor_L16 a1 k53) (fun _ _ => none) n x2 z6 = some (r, z') → MI D o ad H0 z6 H locs → ∀ ls : Array Slot, lv_has ls 4 [(0, .ref o), (1, .int a1), (2, .int x2)] → Z H locs 0 0 (F0 m 16 ls []) := by
      intro n
      induction n with
      | zero => intro x2 z6 H locs hf; exact absurd hf (by intro q; cases q)
      | succ n ih16 =>
        intro x2 z6 H locs hf hM ls hl
        rw [fx_s] at hf
        generalize fx (m_doctor_L16 a1 k53) (fun _ _ => none) n = s16 at hf ih16
        unfold m_doctor_L16 at hf
        refine g_aload_n G dX6_doctor_16 rfl (lv_at hl 0 rfl) ?_
        refine g_iload_n G dX6_doctor_17 rfl (lv_at hl 1 rfl) ?_
        obtain ⟨r3, z7, h5, hf⟩ := bnd_open hf
        refine m_callVi (As := [.int a1]) (rest := []) X hM hl mc_isDoctor (c_isDoctor h5) rfl (Nat.le_of_ble_eq_true rfl) (Nat.le_of_ble_eq_true rfl) rfl dX6_doctor_18 (fun H locs hM => ?_)
        refine g_if_ne (tgt := 53) G dX6_doctor_21 rfl (fun c3 => ?_) (fun c3 => ?_)
        · have hf := it_neg c3 hf
          exact K53 _ _ _ _ hf hM ls (lv_sub hl [0, 1, 2] rfl)
        · have hf := it_pos c3 hf
          refine g_iload_n G dX6_doctor_24 rfl (lv_at hl 2 rfl) ?_
          refine g_bipush (v := 40) G dX6_doctor_25 rfl ?_
          refine g_icmp_ge (tgt := 53) G dX6_doctor_27 rfl (fun c4 => ?_) (fun c4 => ?_)
          · have hf := it_pos c4 hf
            exact K53 _ _ _ _ hf hM ls (lv_sub hl [0, 1, 2] rfl)
          · have hf := it_neg c4 hf
            refine g_aload_n G dX6_doctor_30 rfl (lv_at hl 0 rfl) ?_
            refine mg_a X hM mf_53 dX6_doctor_31 ?_
            refine g_iconst (v := 0) G dX6_doctor_34 rfl ?_
            refine m_iald X hM (mIs.of mf_53) (by decide) dX6_doctor_35 ?_
            refine g_sipush (v := 999) G dX6_doctor_36 rfl ?_
            refine g_icmp_ge (tgt := 53) G dX6_doctor_39 rfl (fun c5 => ?_) (fun c5 => ?_)
            · have hf := it_pos c5 hf
              exact K53 _ _ _ _ hf hM ls (lv_sub hl [0, 1, 2] rfl)
            · have hf := it_neg c5 hf
              refine g_aload_n G dX6_doctor_42 rfl (lv_at hl 0 rfl) ?_
              refine g_iconst (v := 0) G dX6_doctor_43 rfl ?_
              obtain ⟨z8, h6, hf⟩ := bnv_open hf
              refine m_callVv (As := [.int 0]) (rest := []) X hM hl mc_yearGoes (c_yearGoes h6) rfl (Nat.le_of_ble_eq_true rfl) (Nat.le_of_ble_eq_true rfl) rfl dX6_doctor_44 (fun H locs hM => ?_)
              refine g_iinc (v := x2 + 1) (lv' := [(2, .int (x2 + 1)), (0, .ref o), (1, .int a1)]) G dX6_doctor_47 hl (k := 2) rfl rfl (Nat.le_of_ble_eq_true rfl) rfl (fun ls hl => ?_)
              refine g_goto (tgt := 16) G dX6_doctor_50 rfl ?_
              exact ih16 _ _ _ _ hf hM ls (lv_sub hl [1, 2, 0] rfl)
    exact L16 FU _ _ _ _ hf hM ls (lv_sub hl [1, 2, 0] rfl)
  · have hf := it_pos c1 hf
    refine g_iconst (v := (-1)) G dX6_doctor_8 rfl ?_
    exact m_iret X hM hf dX6_doctor_9
noncomputable def m_lost_L23 (a1 : Int32) (k64 : Int32 → MS → Option (Int32 × MS)) (s23 : Int32 → MS → Option (Int32 × MS)) (x3 : Int32) (z9 : MS) : Option (Int32 × MS) :=
  bnd (m_wrongMany a1 z9) fun r5 z10 =>
  bnd (m_personMany z10) fun r6 z11 =>
  if r6 ≤ r5 then
    k64 x3 z11
  else
    if 40 ≤ x3 then
      k64 x3 z11
    else
      if 999 ≤ (mA z11 53 (Int32.toNatClampNeg 0)) then
        k64 x3 z11
      else
        bnv (m_yearGoes 0 z11) fun z12 =>
        s23 (x3 + 1) z12
noncomputable def m_lost (a1 : Int32) (z : MS) : Option (Int32 × MS) :=
  bnd (m_isFact a1 z) fun r1 z1 =>
  if (bI r1) = 0 then
    some ((-1), z1)
  else
    bnd (m_personMany z1) fun r2 z2 =>
    if r2 = 0 then
      some ((-1), z2)
    else
      bnv (m_putsAside z2) fun z3 =>
      jn (fun (x1 : Int32) (z4 : MS) =>
        bnd (m_wrongMany a1 z4) fun r3 z5 =>
        bnd (m_personMany z5) fun r4 z6 =>
        jn (fun (x2 : Bool) (z7 : MS) =>
          bnv (m_takesBack z7) fun z8 =>
          if (bI x2) = 0 then
            some ((-1), z8)
          else
            some (x1, z8)) fun j81 =>
        if r3 = r4 then
          j81 true z6
        else
          j81 false z6) fun k64 =>
      fx (m_lost_L23 a1 k64) (fun _ _ => none) FU 0 z3
set_option maxHeartbeats 1000000 in
theorem c_lost {l : Launch} {D : MD} {o : Nat} {ad : Nat → Nat} {a1 : Int32} {z z' : MS} {r : Int32} (hf : m_lost a1 z = some (r, z')) : MMet l D o ad yX6_lost cX6_lost 4 (some .int) 8 [.ref o, .int a1] z z' (some (.int r)) := by
  unfold m_lost at hf
  refine m_head pnX6 rfl (Nat.le_of_ble_eq_true rfl) (fun m Z H0 ls X hM hl => ?_)
  have G := X.g
  have hl : lv_has ls 4 [(0, .ref o), (1, .int a1)] := hl
  refine g_aload_n G dX6_lost_0 rfl (lv_at hl 0 rfl) ?_
  refine g_iload_n G dX6_lost_1 rfl (lv_at hl 1 rfl) ?_
  obtain ⟨r1, z1, h1, hf⟩ := bnd_open hf
  refine m_callVi (As := [.int a1]) (rest := []) X hM hl mc_isFact (c_isFact h1) rfl (Nat.le_of_ble_eq_true rfl) (Nat.le_of_ble_eq_true rfl) rfl dX6_lost_2 (fun H locs hM => ?_)
  refine g_if_eq (tgt := 15) G dX6_lost_5 rfl (fun c1 => ?_) (fun c1 => ?_)
  · have hf := it_pos c1 hf
    refine g_iconst (v := (-1)) G dX6_lost_15 rfl ?_
    exact m_iret X hM hf dX6_lost_16
  · have hf := it_neg c1 hf
    refine g_aload_n G dX6_lost_8 rfl (lv_at hl 0 rfl) ?_
    obtain ⟨r2, z2, h2, hf⟩ := bnd_open hf
    refine m_callVi (As := []) (rest := []) X hM hl mc_personMany (c_personMany h2) rfl (Nat.le_of_ble_eq_true rfl) (Nat.le_of_ble_eq_true rfl) rfl dX6_lost_9 (fun H locs hM => ?_)
    refine g_if_ne (tgt := 17) G dX6_lost_12 rfl (fun c2 => ?_) (fun c2 => ?_)
    · have hf := it_neg c2 hf
      refine g_aload_n G dX6_lost_17 rfl (lv_at hl 0 rfl) ?_
      obtain ⟨z3, h3, hf⟩ := bnv_open hf
      refine m_callVv (As := []) (rest := []) X hM hl mc_putsAside (c_putsAside h3) rfl (Nat.le_of_ble_eq_true rfl) (Nat.le_of_ble_eq_true rfl) rfl dX6_lost_18 (fun H locs hM => ?_)
      refine g_iconst (v := 0) G dX6_lost_21 rfl ?_
      refine g_istore_n (lv' := [(2, .int 0), (0, .ref o), (1, .int a1)]) G dX6_lost_22 rfl hl (Nat.le_of_ble_eq_true rfl) rfl (fun ls hl => ?_)
      obtain ⟨k64, hk64, hf⟩ := jn_open hf
      have K64 : ∀ (x1 : Int32) (z4 : MS) (H : Heap) (locs : List Loc), k64 x1 z4 = some (r, z') → MI D o ad H0 z4 H locs → ∀ ls : Array Slot, lv_has ls 4 [(0, .ref o), (1, .int a1), (2, .int x1)] → Z H locs 0 0 (F0 m 64 ls []) := by
        intro x1 z4 H locs hf hM ls hl
        rw [hk64] at hf
        refine g_aload_n G dX6_lost_64 rfl (lv_at hl 0 rfl) ?_
        refine g_iload_n G dX6_lost_65 rfl (lv_at hl 1 rfl) ?_
        obtain ⟨r3, z5, h4, hf⟩ := bnd_open hf
        refine m_callVi (As := [.int a1]) (rest := []) X hM hl mc_wrongMany (c_wrongMany h4) rfl (Nat.le_of_ble_eq_true rfl) (Nat.le_of_ble_eq_true rfl) rfl dX6_lost_66 (fun H locs hM => ?_)
        refine g_aload_n G dX6_lost_69 rfl (lv_at hl 0 rfl) ?_
        obtain ⟨r4, z6, h5, hf⟩ := bnd_open hf
        refine m_callVi (As := []) (rest := [.int r3]) X hM hl mc_personMany (c_personMany h5) rfl (Nat.le_of_ble_eq_true rfl) (Nat.le_of_ble_eq_true rfl) rfl dX6_lost_70 (fun H locs hM => ?_)
        obtain ⟨j81, hj81, hf⟩ := jn_open hf
        have J81 : ∀ (x2 : Bool) (z7 : MS) (H : Heap) (locs : List Loc), j81 x2 z7 = some (r, z') → MI D o ad H0 z7 H locs → ∀ ls : Array Slot, lv_has ls 4 [(0, .ref o), (2, .int x1)] → Z H locs 0 0 (F0 m 81 ls [.int (bI x2)]) := by
          intro x2 z7 H locs hf hM ls hl
          rw [hj81] at hf
          refine g_istore_n (lv' := [(3, .int (bI x2)), (0, .ref o), (2, .int x1)]) G dX6_lost_81 rfl hl (Nat.le_of_ble_eq_true rfl) rfl (fun ls hl => ?_)
          refine g_aload_n G dX6_lost_82 rfl (lv_at hl 1 rfl) ?_
          obtain ⟨z8, h6, hf⟩ := bnv_open hf
          refine m_callVv (As := []) (rest := []) X hM hl mc_takesBack (c_takesBack h6) rfl (Nat.le_of_ble_eq_true rfl) (Nat.le_of_ble_eq_true rfl) rfl dX6_lost_83 (fun H locs hM => ?_)
          refine g_iload_n G dX6_lost_86 rfl (lv_at hl 0 rfl) ?_
          refine g_if_eq (tgt := 94) G dX6_lost_87 rfl (fun c3 => ?_) (fun c3 => ?_)
          · have hf := it_pos c3 hf
            refine g_iconst (v := (-1)) G dX6_lost_94 rfl ?_
            exact m_iret X hM hf dX6_lost_95
          · have hf := it_neg c3 hf
            refine g_iload_n G dX6_lost_90 rfl (lv_at hl 2 rfl) ?_
            refine g_goto (tgt := 95) G dX6_lost_91 rfl ?_
            exact m_iret X hM hf dX6_lost_95
        refine g_icmp_ne (tgt := 80) G dX6_lost_73 rfl (fun c4 => ?_) (fun c4 => ?_)
        · have hf := it_neg c4 hf
          refine g_iconst (v := 0) G dX6_lost_80 rfl ?_
          exact J81 _ _ _ _ hf hM ls (lv_sub hl [0, 2] rfl)
        · have hf := it_pos c4 hf
          refine g_iconst (v := 1) G dX6_lost_76 rfl ?_
          refine g_goto (tgt := 81) G dX6_lost_77 rfl ?_
          exact J81 _ _ _ _ hf hM ls (lv_sub hl [0, 2] rfl)
      have L23 : ∀ (n : Nat) (x3 : Int32) (z9 : MS) (H : Heap) (locs : List Loc), fx (m_lost_L23 a1 k64) (fun _ _ => none) n x3 z9 = some (r, z') → MI D o ad H0 z9 H locs → ∀ ls : Array Slot, lv_has ls 4 [(0, .ref o), (1, .int a1), (2, .int x3)] → Z H locs 0 0 (F0 m 23 ls []) := by
        intro n
        induction n with
        | zero => intro x3 z9 H locs hf; exact absurd hf (by intro q; cases q)
        | succ n ih23 =>
          intro x3 z9 H locs hf hM ls hl
          rw [fx_s] at hf
          generalize fx (m_lost_L23 a1 k64) (fun _ _ => none) n = s23 at hf ih23
          unfold m_lost_L23 at hf
          refine g_aload_n G dX6_lost_23 rfl (lv_at hl 0 rfl) ?_
          refine g_iload_n G dX6_lost_24 rfl (lv_at hl 1 rfl) ?_
          obtain ⟨r5, z10, h7, hf⟩ := bnd_open hf
          refine m_callVi (As := [.int a1]) (rest := []) X hM hl mc_wrongMany (c_wrongMany h7) rfl (Nat.le_of_ble_eq_true rfl) (Nat.le_of_ble_eq_true rfl) rfl dX6_lost_25 (fun H locs hM => ?_)
          refine g_aload_n G dX6_lost_28 rfl (lv_at hl 0 rfl) ?_
          obtain ⟨r6, z11, h8, hf⟩ := bnd_open hf
          refine m_callVi (As := []) (rest := [.int r5]) X hM hl mc_personMany (c_personMany h8) rfl (Nat.le_of_ble_eq_true rfl) (Nat.le_of_ble_eq_true rfl) rfl dX6_lost_29 (fun H locs hM => ?_)
          refine g_icmp_ge (tgt := 64) G dX6_lost_32 rfl (fun c5 => ?_) (fun c5 => ?_)
          · have hf := it_pos c5 hf
            exact K64 _ _ _ _ hf hM ls (lv_sub hl [0, 1, 2] rfl)
          · have hf := it_neg c5 hf
            refine g_iload_n G dX6_lost_35 rfl (lv_at hl 2 rfl) ?_
            refine g_bipush (v := 40) G dX6_lost_36 rfl ?_
            refine g_icmp_ge (tgt := 64) G dX6_lost_38 rfl (fun c6 => ?_) (fun c6 => ?_)
            · have hf := it_pos c6 hf
              exact K64 _ _ _ _ hf hM ls (lv_sub hl [0, 1, 2] rfl)
            · have hf := it_neg c6 hf
              refine g_aload_n G dX6_lost_41 rfl (lv_at hl 0 rfl) ?_
              refine mg_a X hM mf_53 dX6_lost_42 ?_
              refine g_iconst (v := 0) G dX6_lost_45 rfl ?_
              refine m_iald X hM (mIs.of mf_53) (by decide) dX6_lost_46 ?_
              refine g_sipush (v := 999) G dX6_lost_47 rfl ?_
              refine g_icmp_ge (tgt := 64) G dX6_lost_50 rfl (fun c7 => ?_) (fun c7 => ?_)
              · have hf := it_pos c7 hf
                exact K64 _ _ _ _ hf hM ls (lv_sub hl [0, 1, 2] rfl)
              · have hf := it_neg c7 hf
                refine g_aload_n G dX6_lost_53 rfl (lv_at hl 0 rfl) ?_
                refine g_iconst (v := 0) G dX6_lost_54 rfl ?_
                obtain ⟨z12, h9, hf⟩ := bnv_open hf
                refine m_callVv (As := [.int 0]) (rest := []) X hM hl mc_yearGoes (c_yearGoes h9) rfl (Nat.le_of_ble_eq_true rfl) (Nat.le_of_ble_eq_true rfl) rfl dX6_lost_55 (fun H locs hM => ?_)
                refine g_iinc (v := x3 + 1) (lv' := [(2, .int (x3 + 1)), (0, .ref o), (1, .int a1)]) G dX6_lost_58 hl (k := 2) rfl rfl (Nat.le_of_ble_eq_true rfl) rfl (fun ls hl => ?_)
                refine g_goto (tgt := 23) G dX6_lost_61 rfl ?_
                exact ih23 _ _ _ _ hf hM ls (lv_sub hl [1, 2, 0] rfl)
      exact L23 FU _ _ _ _ hf hM ls (lv_sub hl [1, 2, 0] rfl)
    · have hf := it_pos c2 hf
      refine g_iconst (v := (-1)) G dX6_lost_15 rfl ?_
      exact m_iret X hM hf dX6_lost_16
theorem mc_isTaughtBy : mcV yX6_isTaughtBy cX6_isTaughtBy 4 (some .boolean) 2 528 := ⟨lw_V q2325 q2327 qs129 q157 q2328, ⟨rfl, by decide +kernel, by decide +kernel, by decide +kernel⟩, Nat.le_of_ble_eq_true rfl⟩
noncomputable def m_isTaughtBy_L2 (a2 : Int32) (k21 : Int32 → MS → Option (Bool × MS)) (s2 : Int32 → MS → Option (Bool × MS)) (x2 : Int32) (z2 : MS) : Option (Bool × MS) :=
  if x2 = (-1) then
    k21 x2 z2
  else
    if x2 = a2 then
      k21 x2 z2
    else
      bnd (m_masterOf x2 z2) fun r1 z3 =>
      s2 r1 z3
noncomputable def m_isTaughtBy (a1 : Int32) (a2 : Int32) (z : MS) : Option (Bool × MS) :=
  jn (fun (x1 : Int32) (z1 : MS) =>
    if x1 = a2 then
      some (true, z1)
    else
      some (false, z1)) fun k21 =>
  fx (m_isTaughtBy_L2 a2 k21) (fun _ _ => none) FU a1 z
set_option maxHeartbeats 1000000 in
theorem c_isTaughtBy {l : Launch} {D : MD} {o : Nat} {ad : Nat → Nat} {a1 : Int32} {a2 : Int32} {z z' : MS} {r : Bool} (hf : m_isTaughtBy a1 a2 z = some (r, z')) : MMet l D o ad yX6_isTaughtBy cX6_isTaughtBy 4 (some .boolean) 2 [.ref o, .int a1, .int a2] z z' (some (.int (bI r))) := by
  unfold m_isTaughtBy at hf
  refine m_head pnX6 rfl (Nat.le_of_ble_eq_true rfl) (fun m Z H0 ls X hM hl => ?_)
  have G := X.g
  have hl : lv_has ls 4 [(0, .ref o), (1, .int a1), (2, .int a2)] := hl
  refine g_iload_n G dX6_isTaughtBy_0 rfl (lv_at hl 1 rfl) ?_
  refine g_istore_n (lv' := [(3, .int a1), (0, .ref o), (1, .int a1), (2, .int a2)]) G dX6_isTaughtBy_1 rfl hl (Nat.le_of_ble_eq_true rfl) rfl (fun ls hl => ?_)
  obtain ⟨k21, hk21, hf⟩ := jn_open hf
  have K21 : ∀ (x1 : Int32) (z1 : MS) (H : Heap) (locs : List Loc), k21 x1 z1 = some (r, z') → MI D o ad H0 z1 H locs → ∀ ls : Array Slot, lv_has ls 4 [(2, .int a2), (3, .int x1)] → Z H locs 0 0 (F0 m 21 ls []) := by
    intro x1 z1 H locs hf hM ls hl
    rw [hk21] at hf
    refine g_iload_n G dX6_isTaughtBy_21 rfl (lv_at hl 1 rfl) ?_
    refine g_iload_n G dX6_isTaughtBy_22 rfl (lv_at hl 0 rfl) ?_
    refine g_icmp_ne (tgt := 30) G dX6_isTaughtBy_23 rfl (fun c1 => ?_) (fun c1 => ?_)
    · have hf := it_neg c1 hf
      refine g_iconst (v := 0) G dX6_isTaughtBy_30 rfl ?_
      exact m_zret X hM hf dX6_isTaughtBy_31
    · have hf := it_pos c1 hf
      refine g_iconst (v := 1) G dX6_isTaughtBy_26 rfl ?_
      refine g_goto (tgt := 31) G dX6_isTaughtBy_27 rfl ?_
      exact m_zret X hM hf dX6_isTaughtBy_31
  have L2 : ∀ (n : Nat) (x2 : Int32) (z2 : MS) (H : Heap) (locs : List Loc), fx (m_isTaughtBy_L2 a2 k21) (fun _ _ => none) n x2 z2 = some (r, z') → MI D o ad H0 z2 H locs → ∀ ls : Array Slot, lv_has ls 4 [(0, .ref o), (2, .int a2), (3, .int x2)] → Z H locs 0 0 (F0 m 2 ls []) := by
    intro n
    induction n with
    | zero => intro x2 z2 H locs hf; exact absurd hf (by intro q; cases q)
    | succ n ih2 =>
      intro x2 z2 H locs hf hM ls hl
      rw [fx_s] at hf
      generalize fx (m_isTaughtBy_L2 a2 k21) (fun _ _ => none) n = s2 at hf ih2
      unfold m_isTaughtBy_L2 at hf
      refine g_iload_n G dX6_isTaughtBy_2 rfl (lv_at hl 2 rfl) ?_
      refine g_iconst (v := (-1)) G dX6_isTaughtBy_3 rfl ?_
      refine g_icmp_eq (tgt := 21) G dX6_isTaughtBy_4 rfl (fun c2 => ?_) (fun c2 => ?_)
      · have hf := it_pos c2 hf
        exact K21 _ _ _ _ hf hM ls (lv_sub hl [1, 2] rfl)
      · have hf := it_neg c2 hf
        refine g_iload_n G dX6_isTaughtBy_7 rfl (lv_at hl 2 rfl) ?_
        refine g_iload_n G dX6_isTaughtBy_8 rfl (lv_at hl 1 rfl) ?_
        refine g_icmp_eq (tgt := 21) G dX6_isTaughtBy_9 rfl (fun c3 => ?_) (fun c3 => ?_)
        · have hf := it_pos c3 hf
          exact K21 _ _ _ _ hf hM ls (lv_sub hl [1, 2] rfl)
        · have hf := it_neg c3 hf
          refine g_aload_n G dX6_isTaughtBy_12 rfl (lv_at hl 0 rfl) ?_
          refine g_iload_n G dX6_isTaughtBy_13 rfl (lv_at hl 2 rfl) ?_
          obtain ⟨r1, z3, h1, hf⟩ := bnd_open hf
          refine m_callVi (As := [.int x2]) (rest := []) X hM hl mc_masterOf (c_masterOf h1) rfl (Nat.le_of_ble_eq_true rfl) (Nat.le_of_ble_eq_true rfl) rfl dX6_isTaughtBy_14 (fun H locs hM => ?_)
          refine g_istore_n (lv' := [(3, .int r1), (0, .ref o), (2, .int a2)]) G dX6_isTaughtBy_17 rfl hl (Nat.le_of_ble_eq_true rfl) rfl (fun ls hl => ?_)
          refine g_goto (tgt := 2) G dX6_isTaughtBy_18 rfl ?_
          exact ih2 _ _ _ _ hf hM ls (lv_sub hl [1, 2, 0] rfl)
  exact L2 FU _ _ _ _ hf hM ls (lv_sub hl [1, 3, 0] rfl)
theorem mc_yearsTill : mcV yX6_yearsTill cX6_yearsTill 3 (some .int) 1 532 := ⟨lw_V q2329 q2331 qs130 q157 q2332, ⟨rfl, by decide +kernel, by decide +kernel, by decide +kernel⟩, Nat.le_of_ble_eq_true rfl⟩
noncomputable def m_yearsTill_L2 (a1 : Int32) (s2 : Int32 → MS → Option (Int32 × MS)) (x1 : Int32) (z1 : MS) : Option (Int32 × MS) :=
  bnd (m_hasPassed a1 z1) fun r1 z2 =>
  if (bI r1) = 0 then
    if 40 < x1 then
      some (x1, z2)
    else
      jn (fun (z3 : MS) =>
        s2 41 z3) fun j45 =>
      if 40 ≤ x1 then
        j45 z2
      else
        if 999 ≤ (mA z2 53 (Int32.toNatClampNeg 0)) then
          j45 z2
        else
          bnv (m_yearGoes 0 z2) fun z4 =>
          s2 (x1 + 1) z4
  else
    some (x1, z2)
noncomputable def m_yearsTill (a1 : Int32) (z : MS) : Option (Int32 × MS) :=
  fx (m_yearsTill_L2 a1) (fun _ _ => none) FU 0 z
set_option maxHeartbeats 1000000 in
theorem c_yearsTill {l : Launch} {D : MD} {o : Nat} {ad : Nat → Nat} {a1 : Int32} {z z' : MS} {r : Int32} (hf : m_yearsTill a1 z = some (r, z')) : MMet l D o ad yX6_yearsTill cX6_yearsTill 3 (some .int) 8 [.ref o, .int a1] z z' (some (.int r)) := by
  unfold m_yearsTill at hf
  refine m_head pnX6 rfl (Nat.le_of_ble_eq_true rfl) (fun m Z H0 ls X hM hl => ?_)
  have G := X.g
  have hl : lv_has ls 3 [(0, .ref o), (1, .int a1)] := hl
  refine g_iconst (v := 0) G dX6_yearsTill_0 rfl ?_
  refine g_istore_n (lv' := [(2, .int 0), (0, .ref o), (1, .int a1)]) G dX6_yearsTill_1 rfl hl (Nat.le_of_ble_eq_true rfl) rfl (fun ls hl => ?_)
  have L2 : ∀ (n : Nat) (x1 : Int32) (z1 : MS) (H : Heap) (locs : List Loc), fx (m_yearsTill_L2 a1) (fun _ _ => none) n x1 z1 = some (r, z') → MI D o ad H0 z1 H locs → ∀ ls : Array Slot, lv_has ls 3 [(0, .ref o), (1, .int a1), (2, .int x1)] → Z H locs 0 0 (F0 m 2 ls []) := by
    intro n
    induction n with
    | zero => intro x1 z1 H locs hf; exact absurd hf (by intro q; cases q)
    | succ n ih2 =>
      intro x1 z1 H locs hf hM ls hl
      rw [fx_s] at hf
      generalize fx (m_yearsTill_L2 a1) (fun _ _ => none) n = s2 at hf ih2
      unfold m_yearsTill_L2 at hf
      refine g_aload_n G dX6_yearsTill_2 rfl (lv_at hl 0 rfl) ?_
      refine g_iload_n G dX6_yearsTill_3 rfl (lv_at hl 1 rfl) ?_
      obtain ⟨r1, z2, h1, hf⟩ := bnd_open hf
      refine m_callVi (As := [.int a1]) (rest := []) X hM hl mc_hasPassed (c_hasPassed h1) rfl (Nat.le_of_ble_eq_true rfl) (Nat.le_of_ble_eq_true rfl) rfl dX6_yearsTill_4 (fun H locs hM => ?_)
      refine g_if_ne (tgt := 51) G dX6_yearsTill_7 rfl (fun c1 => ?_) (fun c1 => ?_)
      · have hf := it_neg c1 hf
        refine g_iload_n G dX6_yearsTill_51 rfl (lv_at hl 2 rfl) ?_
        exact m_iret X hM hf dX6_yearsTill_52
      · have hf := it_pos c1 hf
        refine g_iload_n G dX6_yearsTill_10 rfl (lv_at hl 2 rfl) ?_
        refine g_bipush (v := 40) G dX6_yearsTill_11 rfl ?_
        refine g_icmp_gt (tgt := 51) G dX6_yearsTill_13 rfl (fun c2 => ?_) (fun c2 => ?_)
        · have hf := it_pos c2 hf
          refine g_iload_n G dX6_yearsTill_51 rfl (lv_at hl 2 rfl) ?_
          exact m_iret X hM hf dX6_yearsTill_52
        · have hf := it_neg c2 hf
          refine g_iload_n G dX6_yearsTill_16 rfl (lv_at hl 2 rfl) ?_
          refine g_bipush (v := 40) G dX6_yearsTill_17 rfl ?_
          obtain ⟨j45, hj45, hf⟩ := jn_open hf
          have J45 : ∀ (z3 : MS) (H : Heap) (locs : List Loc), j45 z3 = some (r, z') → MI D o ad H0 z3 H locs → ∀ ls : Array Slot, lv_has ls 3 [(0, .ref o), (1, .int a1)] → Z H locs 0 0 (F0 m 45 ls []) := by
            intro z3 H locs hf hM ls hl
            rw [hj45] at hf
            refine g_bipush (v := 41) G dX6_yearsTill_45 rfl ?_
            refine g_istore_n (lv' := [(2, .int 41), (0, .ref o), (1, .int a1)]) G dX6_yearsTill_47 rfl hl (Nat.le_of_ble_eq_true rfl) rfl (fun ls hl => ?_)
            refine g_goto (tgt := 2) G dX6_yearsTill_48 rfl ?_
            exact ih2 _ _ _ _ hf hM ls (lv_sub hl [1, 2, 0] rfl)
          refine g_icmp_ge (tgt := 45) G dX6_yearsTill_19 rfl (fun c3 => ?_) (fun c3 => ?_)
          · have hf := it_pos c3 hf
            exact J45 _ _ _ hf hM ls (lv_sub hl [0, 1] rfl)
          · have hf := it_neg c3 hf
            refine g_aload_n G dX6_yearsTill_22 rfl (lv_at hl 0 rfl) ?_
            refine mg_a X hM mf_53 dX6_yearsTill_23 ?_
            refine g_iconst (v := 0) G dX6_yearsTill_26 rfl ?_
            refine m_iald X hM (mIs.of mf_53) (by decide) dX6_yearsTill_27 ?_
            refine g_sipush (v := 999) G dX6_yearsTill_28 rfl ?_
            refine g_icmp_ge (tgt := 45) G dX6_yearsTill_31 rfl (fun c4 => ?_) (fun c4 => ?_)
            · have hf := it_pos c4 hf
              exact J45 _ _ _ hf hM ls (lv_sub hl [0, 1] rfl)
            · have hf := it_neg c4 hf
              refine g_aload_n G dX6_yearsTill_34 rfl (lv_at hl 0 rfl) ?_
              refine g_iconst (v := 0) G dX6_yearsTill_35 rfl ?_
              obtain ⟨z4, h2, hf⟩ := bnv_open hf
              refine m_callVv (As := [.int 0]) (rest := []) X hM hl mc_yearGoes (c_yearGoes h2) rfl (Nat.le_of_ble_eq_true rfl) (Nat.le_of_ble_eq_true rfl) rfl dX6_yearsTill_36 (fun H locs hM => ?_)
              refine g_iinc (v := x1 + 1) (lv' := [(2, .int (x1 + 1)), (0, .ref o), (1, .int a1)]) G dX6_yearsTill_39 hl (k := 2) rfl rfl (Nat.le_of_ble_eq_true rfl) rfl (fun ls hl => ?_)
              refine g_goto (tgt := 2) G dX6_yearsTill_42 rfl ?_
              exact ih2 _ _ _ _ hf hM ls (lv_sub hl [1, 2, 0] rfl)
  exact L2 FU _ _ _ _ hf hM ls (lv_sub hl [1, 2, 0] rfl)
noncomputable def m_master_L33 (a1 : Int32) (k101 : Int32 → Int32 → MS → Option (Int32 × MS)) (s33 : Int32 → Int32 → Int32 → MS → Option (Int32 × MS)) (x3 : Int32) (x4 : Int32) (x5 : Int32) (z6 : MS) : Option (Int32 × MS) :=
  bnd (m_personMany z6) fun r3 z7 =>
  if r3 ≤ x5 then
    k101 x3 x4 z7
  else
    bnd (m_isTaughtBy x5 a1 z7) fun r4 z8 =>
    jn (fun (x6 : Int32) (x7 : Int32) (z9 : MS) =>
      s33 x6 x7 (x5 + 1) z9) fun j95 =>
    if (bI r4) = 0 then
      ck (inb (1 + (5 * a1)) (mN 53)) <|
      nm (wA z8 53 (Int32.toNatClampNeg (1 + (5 * a1))) x5) fun z10 =>
      bnd (m_yearsTill a1 z10) fun r5 z11 =>
      bnv (m_triesAnew z11) fun z12 =>
      if r5 < x4 then
        j95 x5 r5 z12
      else
        j95 x3 x4 z12
    else
      j95 x3 x4 z8
noncomputable def m_master (a1 : Int32) (a2 : Int32) (z : MS) : Option (Int32 × MS) :=
  bnd (m_isPerson a1 z) fun r1 z1 =>
  if (bI r1) = 0 then
    some ((-1), z1)
  else
    bnd (m_isIn (Int32.toInt64 a2) 0 1 z1) fun r2 z2 =>
    if (bI r2) = 0 then
      some ((-1), z2)
    else
      bnv (m_putsAside z2) fun z3 =>
      jn (fun (x1 : Int32) (x2 : Int32) (z4 : MS) =>
        bnv (m_takesBack z4) fun z5 =>
        if x1 = (-1) then
          some ((-1), z5)
        else
          if a2 = 0 then
            some (x1, z5)
          else
            some (x2, z5)) fun k101 =>
      fx (m_master_L33 a1 k101) (fun _ _ _ _ => none) FU (-1) 41 0 z3
set_option maxHeartbeats 1000000 in
theorem c_master {l : Launch} {D : MD} {o : Nat} {ad : Nat → Nat} {a1 : Int32} {a2 : Int32} {z z' : MS} {r : Int32} (hf : m_master a1 a2 z = some (r, z')) : MMet l D o ad yX6_master cX6_master 7 (some .int) 9 [.ref o, .int a1, .int a2] z z' (some (.int r)) := by
  unfold m_master at hf
  refine m_head pnX6 rfl (Nat.le_of_ble_eq_true rfl) (fun m Z H0 ls X hM hl => ?_)
  have G := X.g
  have hl : lv_has ls 7 [(0, .ref o), (1, .int a1), (2, .int a2)] := hl
  refine g_aload_n G dX6_master_0 rfl (lv_at hl 0 rfl) ?_
  refine g_iload_n G dX6_master_1 rfl (lv_at hl 1 rfl) ?_
  obtain ⟨r1, z1, h1, hf⟩ := bnd_open hf
  refine m_callVi (As := [.int a1]) (rest := []) X hM hl mc_isPerson (c_isPerson h1) rfl (Nat.le_of_ble_eq_true rfl) (Nat.le_of_ble_eq_true rfl) rfl dX6_master_2 (fun H locs hM => ?_)
  refine g_if_eq (tgt := 18) G dX6_master_5 rfl (fun c1 => ?_) (fun c1 => ?_)
  · have hf := it_pos c1 hf
    refine g_iconst (v := (-1)) G dX6_master_18 rfl ?_
    exact m_iret X hM hf dX6_master_19
  · have hf := it_neg c1 hf
    refine g_iload_n G dX6_master_8 rfl (lv_at hl 2 rfl) ?_
    refine g_i2l (v := Int32.toInt64 a2) G dX6_master_9 rfl ?_
    refine g_lconst (v := 0) G dX6_master_10 rfl ?_
    refine g_lconst (v := 1) G dX6_master_11 rfl ?_
    obtain ⟨r2, z2, h2, hf⟩ := bnd_open hf
    refine m_callSi (As := [.long (Int32.toInt64 a2), .long 0, .long 1]) (rest := []) X hM hl mc_isIn (c_isIn h2) rfl (Nat.le_of_ble_eq_true rfl) (Nat.le_of_ble_eq_true rfl) rfl dX6_master_12 (fun H locs hM => ?_)
    refine g_if_ne (tgt := 20) G dX6_master_15 rfl (fun c2 => ?_) (fun c2 => ?_)
    · have hf := it_neg c2 hf
      refine g_iconst (v := (-1)) G dX6_master_20 rfl ?_
      refine g_istore_n (lv' := [(3, .int (-1)), (0, .ref o), (1, .int a1), (2, .int a2)]) G dX6_master_21 rfl hl (Nat.le_of_ble_eq_true rfl) rfl (fun ls hl => ?_)
      refine g_bipush (v := 41) G dX6_master_22 rfl ?_
      refine g_istore (lv' := [(4, .int 41), (3, .int (-1)), (0, .ref o), (1, .int a1), (2, .int a2)]) G dX6_master_24 hl (Nat.le_of_ble_eq_true rfl) rfl (fun ls hl => ?_)
      refine g_aload_n G dX6_master_26 rfl (lv_at hl 2 rfl) ?_
      obtain ⟨z3, h3, hf⟩ := bnv_open hf
      refine m_callVv (As := []) (rest := []) X hM hl mc_putsAside (c_putsAside h3) rfl (Nat.le_of_ble_eq_true rfl) (Nat.le_of_ble_eq_true rfl) rfl dX6_master_27 (fun H locs hM => ?_)
      refine g_iconst (v := 0) G dX6_master_30 rfl ?_
      refine g_istore (lv' := [(5, .int 0), (4, .int 41), (3, .int (-1)), (0, .ref o), (1, .int a1), (2, .int a2)]) G dX6_master_31 hl (Nat.le_of_ble_eq_true rfl) rfl (fun ls hl => ?_)
      obtain ⟨k101, hk101, hf⟩ := jn_open hf
      have K101 : ∀ (x1 : Int32) (x2 : Int32) (z4 : MS) (H : Heap) (locs : List Loc), k101 x1 x2 z4 = some (r, z') → MI D o ad H0 z4 H locs → ∀ ls : Array Slot, lv_has ls 7 [(0, .ref o), (2, .int a2), (3, .int x1), (4, .int x2)] → Z H locs 0 0 (F0 m 101 ls []) := by
        intro x1 x2 z4 H locs hf hM ls hl
        rw [hk101] at hf
        refine g_aload_n G dX6_master_101 rfl (lv_at hl 0 rfl) ?_
        obtain ⟨z5, h4, hf⟩ := bnv_open hf
        refine m_callVv (As := []) (rest := []) X hM hl mc_takesBack (c_takesBack h4) rfl (Nat.le_of_ble_eq_true rfl) (Nat.le_of_ble_eq_true rfl) rfl dX6_master_102 (fun H locs hM => ?_)
        refine g_iload_n G dX6_master_105 rfl (lv_at hl 2 rfl) ?_
        refine g_iconst (v := (-1)) G dX6_master_106 rfl ?_
        refine g_icmp_ne (tgt := 114) G dX6_master_107 rfl (fun c3 => ?_) (fun c3 => ?_)
        · have hf := it_neg c3 hf
          refine g_iload_n G dX6_master_114 rfl (lv_at hl 1 rfl) ?_
          refine g_if_ne (tgt := 122) G dX6_master_115 rfl (fun c4 => ?_) (fun c4 => ?_)
          · have hf := it_neg c4 hf
            refine g_iload G dX6_master_122 (lv_at hl 3 rfl) ?_
            exact m_iret X hM hf dX6_master_124
          · have hf := it_pos c4 hf
            refine g_iload_n G dX6_master_118 rfl (lv_at hl 2 rfl) ?_
            refine g_goto (tgt := 124) G dX6_master_119 rfl ?_
            exact m_iret X hM hf dX6_master_124
        · have hf := it_pos c3 hf
          refine g_iconst (v := (-1)) G dX6_master_110 rfl ?_
          refine g_goto (tgt := 124) G dX6_master_111 rfl ?_
          exact m_iret X hM hf dX6_master_124
      have L33 : ∀ (n : Nat) (x3 : Int32) (x4 : Int32) (x5 : Int32) (z6 : MS) (H : Heap) (locs : List Loc), fx (m_master_L33 a1 k101) (fun _ _ _ _ => none) n x3 x4 x5 z6 = some (r, z') → MI D o ad H0 z6 H locs → ∀ ls : Array Slot, lv_has ls 7 [(0, .ref o), (1, .int a1), (2, .int a2), (3, .int x3), (4, .int x4), (5, .int x5)] → Z H locs 0 0 (F0 m 33 ls []) := by
        intro n
        induction n with
        | zero => intro x3 x4 x5 z6 H locs hf; exact absurd hf (by intro q; cases q)
        | succ n ih33 =>
          intro x3 x4 x5 z6 H locs hf hM ls hl
          rw [fx_s] at hf
          generalize fx (m_master_L33 a1 k101) (fun _ _ _ _ => none) n = s33 at hf ih33
          unfold m_master_L33 at hf
          refine g_iload G dX6_master_33 (lv_at hl 5 rfl) ?_
          refine g_aload_n G dX6_master_35 rfl (lv_at hl 0 rfl) ?_
          obtain ⟨r3, z7, h5, hf⟩ := bnd_open hf
          refine m_callVi (As := []) (rest := [.int x5]) X hM hl mc_personMany (c_personMany h5) rfl (Nat.le_of_ble_eq_true rfl) (Nat.le_of_ble_eq_true rfl) rfl dX6_master_36 (fun H locs hM => ?_)
          refine g_icmp_ge (tgt := 101) G dX6_master_39 rfl (fun c5 => ?_) (fun c5 => ?_)
          · have hf := it_pos c5 hf
            exact K101 _ _ _ _ _ hf hM ls (lv_sub hl [0, 2, 3, 4] rfl)
          · have hf := it_neg c5 hf
            refine g_aload_n G dX6_master_42 rfl (lv_at hl 0 rfl) ?_
            refine g_iload G dX6_master_43 (lv_at hl 5 rfl) ?_
            refine g_iload_n G dX6_master_45 rfl (lv_at hl 1 rfl) ?_
            obtain ⟨r4, z8, h6, hf⟩ := bnd_open hf
            refine m_callVi (As := [.int x5, .int a1]) (rest := []) X hM hl mc_isTaughtBy (c_isTaughtBy h6) rfl (Nat.le_of_ble_eq_true rfl) (Nat.le_of_ble_eq_true rfl) rfl dX6_master_46 (fun H locs hM => ?_)
            obtain ⟨j95, hj95, hf⟩ := jn_open hf
            have J95 : ∀ (x6 : Int32) (x7 : Int32) (z9 : MS) (H : Heap) (locs : List Loc), j95 x6 x7 z9 = some (r, z') → MI D o ad H0 z9 H locs → ∀ ls : Array Slot, lv_has ls 7 [(0, .ref o), (1, .int a1), (2, .int a2), (3, .int x6), (4, .int x7), (5, .int x5)] → Z H locs 0 0 (F0 m 95 ls []) := by
              intro x6 x7 z9 H locs hf hM ls hl
              rw [hj95] at hf
              refine g_iinc (v := x5 + 1) (lv' := [(5, .int (x5 + 1)), (0, .ref o), (1, .int a1), (2, .int a2), (3, .int x6), (4, .int x7)]) G dX6_master_95 hl (k := 5) rfl rfl (Nat.le_of_ble_eq_true rfl) rfl (fun ls hl => ?_)
              refine g_goto (tgt := 33) G dX6_master_98 rfl ?_
              exact ih33 _ _ _ _ _ _ hf hM ls (lv_sub hl [1, 2, 3, 4, 5, 0] rfl)
            refine g_if_eq (tgt := 55) G dX6_master_49 rfl (fun c6 => ?_) (fun c6 => ?_)
            · have hf := it_pos c6 hf
              refine g_aload_n G dX6_master_55 rfl (lv_at hl 0 rfl) ?_
              refine mg_a X hM mf_53 dX6_master_56 ?_
              refine g_iconst (v := 1) G dX6_master_59 rfl ?_
              refine g_iconst (v := 5) G dX6_master_60 rfl ?_
              refine g_iload_n G dX6_master_61 rfl (lv_at hl 1 rfl) ?_
              refine g_imul G dX6_master_62 ?_
              refine g_iadd G dX6_master_63 ?_
              refine g_iload G dX6_master_64 (lv_at hl 5 rfl) ?_
              obtain ⟨b1, hf⟩ := ck_open hf
              obtain ⟨z10, hz10, hf⟩ := nm_open hf
              refine m_iast X hM (mIs.of mf_53) b1 hz10 dX6_master_66 (fun H locs hM => ?_)
              refine g_aload_n G dX6_master_67 rfl (lv_at hl 0 rfl) ?_
              refine g_iload_n G dX6_master_68 rfl (lv_at hl 1 rfl) ?_
              obtain ⟨r5, z11, h7, hf⟩ := bnd_open hf
              refine m_callVi (As := [.int a1]) (rest := []) X hM hl mc_yearsTill (c_yearsTill h7) rfl (Nat.le_of_ble_eq_true rfl) (Nat.le_of_ble_eq_true rfl) rfl dX6_master_69 (fun H locs hM => ?_)
              refine g_istore (lv' := [(6, .int r5), (0, .ref o), (1, .int a1), (2, .int a2), (3, .int x3), (4, .int x4), (5, .int x5)]) G dX6_master_72 hl (Nat.le_of_ble_eq_true rfl) rfl (fun ls hl => ?_)
              refine g_aload_n G dX6_master_74 rfl (lv_at hl 1 rfl) ?_
              obtain ⟨z12, h8, hf⟩ := bnv_open hf
              refine m_callVv (As := []) (rest := []) X hM hl mc_triesAnew (c_triesAnew h8) rfl (Nat.le_of_ble_eq_true rfl) (Nat.le_of_ble_eq_true rfl) rfl dX6_master_75 (fun H locs hM => ?_)
              refine g_iload G dX6_master_78 (lv_at hl 0 rfl) ?_
              refine g_iload G dX6_master_80 (lv_at hl 5 rfl) ?_
              refine g_icmp_lt (tgt := 88) G dX6_master_82 rfl (fun c7 => ?_) (fun c7 => ?_)
              · have hf := it_pos c7 hf
                refine g_iload G dX6_master_88 (lv_at hl 6 rfl) ?_
                refine g_istore_n (lv' := [(3, .int x5), (6, .int r5), (0, .ref o), (1, .int a1), (2, .int a2), (4, .int x4), (5, .int x5)]) G dX6_master_90 rfl hl (Nat.le_of_ble_eq_true rfl) rfl (fun ls hl => ?_)
                refine g_iload G dX6_master_91 (lv_at hl 1 rfl) ?_
                refine g_istore (lv' := [(4, .int r5), (3, .int x5), (6, .int r5), (0, .ref o), (1, .int a1), (2, .int a2), (5, .int x5)]) G dX6_master_93 hl (Nat.le_of_ble_eq_true rfl) rfl (fun ls hl => ?_)
                exact J95 _ _ _ _ _ hf hM ls (lv_sub hl [3, 4, 5, 1, 0, 6] rfl)
              · have hf := it_neg c7 hf
                refine g_goto (tgt := 95) G dX6_master_85 rfl ?_
                exact J95 _ _ _ _ _ hf hM ls (lv_sub hl [1, 2, 3, 4, 5, 6] rfl)
            · have hf := it_neg c6 hf
              refine g_goto (tgt := 95) G dX6_master_52 rfl ?_
              exact J95 _ _ _ _ _ hf hM ls (lv_sub hl [0, 1, 2, 3, 4, 5] rfl)
      exact L33 FU _ _ _ _ _ _ hf hM ls (lv_sub hl [3, 4, 5, 2, 1, 0] rfl)
    · have hf := it_pos c2 hf
      refine g_iconst (v := (-1)) G dX6_master_18 rfl ?_
      exact m_iret X hM hf dX6_master_19
theorem mc_isDoctorBehind : mcV yX6_isDoctorBehind cX6_isDoctorBehind 4 (some .boolean) 2 535 := ⟨lw_V q2337 q2339 qs131 q157 q2340, ⟨rfl, by decide +kernel, by decide +kernel, by decide +kernel⟩, Nat.le_of_ble_eq_true rfl⟩
noncomputable def m_isDoctorBehind (a1 : Int32) (a2 : Int32) (z : MS) : Option (Bool × MS) :=
  bnv (m_yearsGo a2 z) fun z1 =>
  bnd (m_isDoctor a1 z1) fun r1 z2 =>
  bnv (m_triesAnew z2) fun z3 =>
  some (r1, z3)
set_option maxHeartbeats 1000000 in
theorem c_isDoctorBehind {l : Launch} {D : MD} {o : Nat} {ad : Nat → Nat} {a1 : Int32} {a2 : Int32} {z z' : MS} {r : Bool} (hf : m_isDoctorBehind a1 a2 z = some (r, z')) : MMet l D o ad yX6_isDoctorBehind cX6_isDoctorBehind 4 (some .boolean) 9 [.ref o, .int a1, .int a2] z z' (some (.int (bI r))) := by
  unfold m_isDoctorBehind at hf
  refine m_head pnX6 rfl (Nat.le_of_ble_eq_true rfl) (fun m Z H0 ls X hM hl => ?_)
  have G := X.g
  have hl : lv_has ls 4 [(0, .ref o), (1, .int a1), (2, .int a2)] := hl
  refine g_aload_n G dX6_isDoctorBehind_0 rfl (lv_at hl 0 rfl) ?_
  refine g_iload_n G dX6_isDoctorBehind_1 rfl (lv_at hl 2 rfl) ?_
  obtain ⟨z1, h1, hf⟩ := bnv_open hf
  refine m_callVv (As := [.int a2]) (rest := []) X hM hl mc_yearsGo (c_yearsGo h1) rfl (Nat.le_of_ble_eq_true rfl) (Nat.le_of_ble_eq_true rfl) rfl dX6_isDoctorBehind_2 (fun H locs hM => ?_)
  refine g_aload_n G dX6_isDoctorBehind_5 rfl (lv_at hl 0 rfl) ?_
  refine g_iload_n G dX6_isDoctorBehind_6 rfl (lv_at hl 1 rfl) ?_
  obtain ⟨r1, z2, h2, hf⟩ := bnd_open hf
  refine m_callVi (As := [.int a1]) (rest := []) X hM hl mc_isDoctor (c_isDoctor h2) rfl (Nat.le_of_ble_eq_true rfl) (Nat.le_of_ble_eq_true rfl) rfl dX6_isDoctorBehind_7 (fun H locs hM => ?_)
  refine g_istore_n (lv' := [(3, .int (bI r1)), (0, .ref o), (1, .int a1), (2, .int a2)]) G dX6_isDoctorBehind_10 rfl hl (Nat.le_of_ble_eq_true rfl) rfl (fun ls hl => ?_)
  refine g_aload_n G dX6_isDoctorBehind_11 rfl (lv_at hl 1 rfl) ?_
  obtain ⟨z3, h3, hf⟩ := bnv_open hf
  refine m_callVv (As := []) (rest := []) X hM hl mc_triesAnew (c_triesAnew h3) rfl (Nat.le_of_ble_eq_true rfl) (Nat.le_of_ble_eq_true rfl) rfl dX6_isDoctorBehind_12 (fun H locs hM => ?_)
  refine g_iload_n G dX6_isDoctorBehind_15 rfl (lv_at hl 0 rfl) ?_
  exact m_zret X hM hf dX6_isDoctorBehind_16
noncomputable def m_gift_L69 (a1 : Int32) (a2 : Int32) (x5 : Int32) (k157 : Int32 → Int32 → MS → Option (Int32 × MS)) (s69 : Int32 → Int32 → Int32 → MS → Option (Int32 × MS)) (x8 : Int32) (x9 : Int32) (x10 : Int32) (z11 : MS) : Option (Int32 × MS) :=
  bnd (m_factMany z11) fun r6 z12 =>
  if r6 ≤ x10 then
    k157 x8 x9 z12
  else
    bnd (m_isOf x5 x10 z12) fun r7 z13 =>
    jn (fun (x11 : Int32) (x12 : Int32) (z14 : MS) =>
      s69 x11 x12 (x10 + 1) z14) fun j151 =>
    if r7 = 1 then
      j151 x8 x9 z13
    else
      jn (fun (z15 : MS) =>
        bnv (m_makes x5 x10 1 z15) fun z16 =>
        bnd (m_isDoctorBehind a1 a2 z16) fun r8 z17 =>
        if (bI r8) = 0 then
          j151 x8 x9 z17
        else
          j151 x5 x10 z17) fun j122 =>
      if x8 = (-1) then
        j122 z13
      else
        ck (inb (8 + x10) (mN 41)) <|
        ck (inb (8 + x9) (mN 41)) <|
        if (mA z13 41 (Int32.toNatClampNeg (8 + x10))) < (mA z13 41 (Int32.toNatClampNeg (8 + x9))) then
          j122 z13
        else
          j151 x8 x9 z13
noncomputable def m_gift_L52 (a1 : Int32) (a2 : Int32) (r4 : Bool) (k163 : Int32 → Int32 → MS → Option (Int32 × MS)) (s52 : Int32 → Int32 → Int32 → MS → Option (Int32 × MS)) (x3 : Int32) (x4 : Int32) (x5 : Int32) (z8 : MS) : Option (Int32 × MS) :=
  bnd (m_personMany z8) fun r5 z9 =>
  if r5 ≤ x5 then
    k163 x3 x4 z9
  else
    if (bI r4) = 0 then
      jn (fun (x6 : Int32) (x7 : Int32) (z10 : MS) =>
        s52 x6 x7 (x5 + 1) z10) fun k157 =>
      fx (m_gift_L69 a1 a2 x5 k157) (fun _ _ _ _ => none) FU x3 x4 0 z9
    else
      k163 x3 x4 z9
noncomputable def m_gift (a1 : Int32) (a2 : Int32) (a3 : Int32) (z : MS) : Option (Int32 × MS) :=
  bnd (m_isPerson a1 z) fun r1 z1 =>
  if (bI r1) = 0 then
    some ((-1), z1)
  else
    bnd (m_isAhead a2 0 20 z1) fun r2 z2 =>
    if (bI r2) = 0 then
      some ((-1), z2)
    else
      bnd (m_isIn (Int32.toInt64 a3) 0 1 z2) fun r3 z3 =>
      if (bI r3) = 0 then
        some ((-1), z3)
      else
        bnv (m_putsAside z3) fun z4 =>
        bnd (m_isDoctorBehind a1 a2 z4) fun r4 z5 =>
        jn (fun (x1 : Int32) (x2 : Int32) (z6 : MS) =>
          bnv (m_takesBack z6) fun z7 =>
          if x1 = (-1) then
            some ((-1), z7)
          else
            if a3 = 0 then
              some (x1, z7)
            else
              some (x2, z7)) fun k163 =>
        fx (m_gift_L52 a1 a2 r4 k163) (fun _ _ _ _ => none) FU (-1) (-1) 0 z5
set_option maxHeartbeats 1000000 in
theorem c_gift {l : Launch} {D : MD} {o : Nat} {ad : Nat → Nat} {a1 : Int32} {a2 : Int32} {a3 : Int32} {z z' : MS} {r : Int32} (hf : m_gift a1 a2 a3 z = some (r, z')) : MMet l D o ad yX6_gift cX6_gift 9 (some .int) 10 [.ref o, .int a1, .int a2, .int a3] z z' (some (.int r)) := by
  unfold m_gift at hf
  refine m_head pnX6 rfl (Nat.le_of_ble_eq_true rfl) (fun m Z H0 ls X hM hl => ?_)
  have G := X.g
  have hl : lv_has ls 9 [(0, .ref o), (1, .int a1), (2, .int a2), (3, .int a3)] := hl
  refine g_aload_n G dX6_gift_0 rfl (lv_at hl 0 rfl) ?_
  refine g_iload_n G dX6_gift_1 rfl (lv_at hl 1 rfl) ?_
  obtain ⟨r1, z1, h1, hf⟩ := bnd_open hf
  refine m_callVi (As := [.int a1]) (rest := []) X hM hl mc_isPerson (c_isPerson h1) rfl (Nat.le_of_ble_eq_true rfl) (Nat.le_of_ble_eq_true rfl) rfl dX6_gift_2 (fun H locs hM => ?_)
  refine g_if_eq (tgt := 29) G dX6_gift_5 rfl (fun c1 => ?_) (fun c1 => ?_)
  · have hf := it_pos c1 hf
    refine g_iconst (v := (-1)) G dX6_gift_29 rfl ?_
    exact m_iret X hM hf dX6_gift_30
  · have hf := it_neg c1 hf
    refine g_aload_n G dX6_gift_8 rfl (lv_at hl 0 rfl) ?_
    refine g_iload_n G dX6_gift_9 rfl (lv_at hl 2 rfl) ?_
    refine g_iconst (v := 0) G dX6_gift_10 rfl ?_
    refine g_bipush (v := 20) G dX6_gift_11 rfl ?_
    obtain ⟨r2, z2, h2, hf⟩ := bnd_open hf
    refine m_callVi (As := [.int a2, .int 0, .int 20]) (rest := []) X hM hl mc_isAhead (c_isAhead h2) rfl (Nat.le_of_ble_eq_true rfl) (Nat.le_of_ble_eq_true rfl) rfl dX6_gift_13 (fun H locs hM => ?_)
    refine g_if_eq (tgt := 29) G dX6_gift_16 rfl (fun c2 => ?_) (fun c2 => ?_)
    · have hf := it_pos c2 hf
      refine g_iconst (v := (-1)) G dX6_gift_29 rfl ?_
      exact m_iret X hM hf dX6_gift_30
    · have hf := it_neg c2 hf
      refine g_iload_n G dX6_gift_19 rfl (lv_at hl 3 rfl) ?_
      refine g_i2l (v := Int32.toInt64 a3) G dX6_gift_20 rfl ?_
      refine g_lconst (v := 0) G dX6_gift_21 rfl ?_
      refine g_lconst (v := 1) G dX6_gift_22 rfl ?_
      obtain ⟨r3, z3, h3, hf⟩ := bnd_open hf
      refine m_callSi (As := [.long (Int32.toInt64 a3), .long 0, .long 1]) (rest := []) X hM hl mc_isIn (c_isIn h3) rfl (Nat.le_of_ble_eq_true rfl) (Nat.le_of_ble_eq_true rfl) rfl dX6_gift_23 (fun H locs hM => ?_)
      refine g_if_ne (tgt := 31) G dX6_gift_26 rfl (fun c3 => ?_) (fun c3 => ?_)
      · have hf := it_neg c3 hf
        refine g_iconst (v := (-1)) G dX6_gift_31 rfl ?_
        refine g_istore (lv' := [(4, .int (-1)), (0, .ref o), (1, .int a1), (2, .int a2), (3, .int a3)]) G dX6_gift_32 hl (Nat.le_of_ble_eq_true rfl) rfl (fun ls hl => ?_)
        refine g_iconst (v := (-1)) G dX6_gift_34 rfl ?_
        refine g_istore (lv' := [(5, .int (-1)), (4, .int (-1)), (0, .ref o), (1, .int a1), (2, .int a2), (3, .int a3)]) G dX6_gift_35 hl (Nat.le_of_ble_eq_true rfl) rfl (fun ls hl => ?_)
        refine g_aload_n G dX6_gift_37 rfl (lv_at hl 2 rfl) ?_
        obtain ⟨z4, h4, hf⟩ := bnv_open hf
        refine m_callVv (As := []) (rest := []) X hM hl mc_putsAside (c_putsAside h4) rfl (Nat.le_of_ble_eq_true rfl) (Nat.le_of_ble_eq_true rfl) rfl dX6_gift_38 (fun H locs hM => ?_)
        refine g_aload_n G dX6_gift_41 rfl (lv_at hl 2 rfl) ?_
        refine g_iload_n G dX6_gift_42 rfl (lv_at hl 3 rfl) ?_
        refine g_iload_n G dX6_gift_43 rfl (lv_at hl 4 rfl) ?_
        obtain ⟨r4, z5, h5, hf⟩ := bnd_open hf
        refine m_callVi (As := [.int a1, .int a2]) (rest := []) X hM hl mc_isDoctorBehind (c_isDoctorBehind h5) rfl (Nat.le_of_ble_eq_true rfl) (Nat.le_of_ble_eq_true rfl) rfl dX6_gift_44 (fun H locs hM => ?_)
        refine g_istore (lv' := [(6, .int (bI r4)), (5, .int (-1)), (4, .int (-1)), (0, .ref o), (1, .int a1), (2, .int a2), (3, .int a3)]) G dX6_gift_47 hl (Nat.le_of_ble_eq_true rfl) rfl (fun ls hl => ?_)
        refine g_iconst (v := 0) G dX6_gift_49 rfl ?_
        refine g_istore (lv' := [(7, .int 0), (6, .int (bI r4)), (5, .int (-1)), (4, .int (-1)), (0, .ref o), (1, .int a1), (2, .int a2), (3, .int a3)]) G dX6_gift_50 hl (Nat.le_of_ble_eq_true rfl) rfl (fun ls hl => ?_)
        obtain ⟨k163, hk163, hf⟩ := jn_open hf
        have K163 : ∀ (x1 : Int32) (x2 : Int32) (z6 : MS) (H : Heap) (locs : List Loc), k163 x1 x2 z6 = some (r, z') → MI D o ad H0 z6 H locs → ∀ ls : Array Slot, lv_has ls 9 [(0, .ref o), (3, .int a3), (4, .int x1), (5, .int x2)] → Z H locs 0 0 (F0 m 163 ls []) := by
          intro x1 x2 z6 H locs hf hM ls hl
          rw [hk163] at hf
          refine g_aload_n G dX6_gift_163 rfl (lv_at hl 0 rfl) ?_
          obtain ⟨z7, h6, hf⟩ := bnv_open hf
          refine m_callVv (As := []) (rest := []) X hM hl mc_takesBack (c_takesBack h6) rfl (Nat.le_of_ble_eq_true rfl) (Nat.le_of_ble_eq_true rfl) rfl dX6_gift_164 (fun H locs hM => ?_)
          refine g_iload G dX6_gift_167 (lv_at hl 2 rfl) ?_
          refine g_iconst (v := (-1)) G dX6_gift_169 rfl ?_
          refine g_icmp_ne (tgt := 177) G dX6_gift_170 rfl (fun c4 => ?_) (fun c4 => ?_)
          · have hf := it_neg c4 hf
            refine g_iload_n G dX6_gift_177 rfl (lv_at hl 1 rfl) ?_
            refine g_if_ne (tgt := 186) G dX6_gift_178 rfl (fun c5 => ?_) (fun c5 => ?_)
            · have hf := it_neg c5 hf
              refine g_iload G dX6_gift_186 (lv_at hl 3 rfl) ?_
              exact m_iret X hM hf dX6_gift_188
            · have hf := it_pos c5 hf
              refine g_iload G dX6_gift_181 (lv_at hl 2 rfl) ?_
              refine g_goto (tgt := 188) G dX6_gift_183 rfl ?_
              exact m_iret X hM hf dX6_gift_188
          · have hf := it_pos c4 hf
            refine g_iconst (v := (-1)) G dX6_gift_173 rfl ?_
            refine g_goto (tgt := 188) G dX6_gift_174 rfl ?_
            exact m_iret X hM hf dX6_gift_188
        have L52 : ∀ (n : Nat) (x3 : Int32) (x4 : Int32) (x5 : Int32) (z8 : MS) (H : Heap) (locs : List Loc), fx (m_gift_L52 a1 a2 r4 k163) (fun _ _ _ _ => none) n x3 x4 x5 z8 = some (r, z') → MI D o ad H0 z8 H locs → ∀ ls : Array Slot, lv_has ls 9 [(0, .ref o), (1, .int a1), (2, .int a2), (3, .int a3), (4, .int x3), (5, .int x4), (6, .int (bI r4)), (7, .int x5)] → Z H locs 0 0 (F0 m 52 ls []) := by
          intro n
          induction n with
          | zero => intro x3 x4 x5 z8 H locs hf; exact absurd hf (by intro q; cases q)
          | succ n ih52 =>
            intro x3 x4 x5 z8 H locs hf hM ls hl
            rw [fx_s] at hf
            generalize fx (m_gift_L52 a1 a2 r4 k163) (fun _ _ _ _ => none) n = s52 at hf ih52
            unfold m_gift_L52 at hf
            refine g_iload G dX6_gift_52 (lv_at hl 7 rfl) ?_
            refine g_aload_n G dX6_gift_54 rfl (lv_at hl 0 rfl) ?_
            obtain ⟨r5, z9, h7, hf⟩ := bnd_open hf
            refine m_callVi (As := []) (rest := [.int x5]) X hM hl mc_personMany (c_personMany h7) rfl (Nat.le_of_ble_eq_true rfl) (Nat.le_of_ble_eq_true rfl) rfl dX6_gift_55 (fun H locs hM => ?_)
            refine g_icmp_ge (tgt := 163) G dX6_gift_58 rfl (fun c6 => ?_) (fun c6 => ?_)
            · have hf := it_pos c6 hf
              exact K163 _ _ _ _ _ hf hM ls (lv_sub hl [0, 3, 4, 5] rfl)
            · have hf := it_neg c6 hf
              refine g_iload G dX6_gift_61 (lv_at hl 6 rfl) ?_
              refine g_if_ne (tgt := 163) G dX6_gift_63 rfl (fun c7 => ?_) (fun c7 => ?_)
              · have hf := it_neg c7 hf
                exact K163 _ _ _ _ _ hf hM ls (lv_sub hl [0, 3, 4, 5] rfl)
              · have hf := it_pos c7 hf
                refine g_iconst (v := 0) G dX6_gift_66 rfl ?_
                refine g_istore (lv' := [(8, .int 0), (0, .ref o), (1, .int a1), (2, .int a2), (3, .int a3), (4, .int x3), (5, .int x4), (6, .int (bI r4)), (7, .int x5)]) G dX6_gift_67 hl (Nat.le_of_ble_eq_true rfl) rfl (fun ls hl => ?_)
                obtain ⟨k157, hk157, hf⟩ := jn_open hf
                have K157 : ∀ (x6 : Int32) (x7 : Int32) (z10 : MS) (H : Heap) (locs : List Loc), k157 x6 x7 z10 = some (r, z') → MI D o ad H0 z10 H locs → ∀ ls : Array Slot, lv_has ls 9 [(0, .ref o), (1, .int a1), (2, .int a2), (3, .int a3), (4, .int x6), (5, .int x7), (6, .int (bI r4)), (7, .int x5)] → Z H locs 0 0 (F0 m 157 ls []) := by
                  intro x6 x7 z10 H locs hf hM ls hl
                  rw [hk157] at hf
                  refine g_iinc (v := x5 + 1) (lv' := [(7, .int (x5 + 1)), (0, .ref o), (1, .int a1), (2, .int a2), (3, .int a3), (4, .int x6), (5, .int x7), (6, .int (bI r4))]) G dX6_gift_157 hl (k := 7) rfl rfl (Nat.le_of_ble_eq_true rfl) rfl (fun ls hl => ?_)
                  refine g_goto (tgt := 52) G dX6_gift_160 rfl ?_
                  exact ih52 _ _ _ _ _ _ hf hM ls (lv_sub hl [1, 2, 3, 4, 5, 6, 7, 0] rfl)
                have L69 : ∀ (n : Nat) (x8 : Int32) (x9 : Int32) (x10 : Int32) (z11 : MS) (H : Heap) (locs : List Loc), fx (m_gift_L69 a1 a2 x5 k157) (fun _ _ _ _ => none) n x8 x9 x10 z11 = some (r, z') → MI D o ad H0 z11 H locs → ∀ ls : Array Slot, lv_has ls 9 [(0, .ref o), (1, .int a1), (2, .int a2), (3, .int a3), (4, .int x8), (5, .int x9), (6, .int (bI r4)), (7, .int x5), (8, .int x10)] → Z H locs 0 0 (F0 m 69 ls []) := by
                  intro n
                  induction n with
                  | zero => intro x8 x9 x10 z11 H locs hf; exact absurd hf (by intro q; cases q)
                  | succ n ih69 =>
                    intro x8 x9 x10 z11 H locs hf hM ls hl
                    rw [fx_s] at hf
                    generalize fx (m_gift_L69 a1 a2 x5 k157) (fun _ _ _ _ => none) n = s69 at hf ih69
                    unfold m_gift_L69 at hf
                    refine g_iload G dX6_gift_69 (lv_at hl 8 rfl) ?_
                    refine g_aload_n G dX6_gift_71 rfl (lv_at hl 0 rfl) ?_
                    obtain ⟨r6, z12, h8, hf⟩ := bnd_open hf
                    refine m_callVi (As := []) (rest := [.int x10]) X hM hl mc_factMany (c_factMany h8) rfl (Nat.le_of_ble_eq_true rfl) (Nat.le_of_ble_eq_true rfl) rfl dX6_gift_72 (fun H locs hM => ?_)
                    refine g_icmp_ge (tgt := 157) G dX6_gift_75 rfl (fun c8 => ?_) (fun c8 => ?_)
                    · have hf := it_pos c8 hf
                      exact K157 _ _ _ _ _ hf hM ls (lv_sub hl [0, 1, 2, 3, 4, 5, 6, 7] rfl)
                    · have hf := it_neg c8 hf
                      refine g_aload_n G dX6_gift_78 rfl (lv_at hl 0 rfl) ?_
                      refine g_iload G dX6_gift_79 (lv_at hl 7 rfl) ?_
                      refine g_iload G dX6_gift_81 (lv_at hl 8 rfl) ?_
                      obtain ⟨r7, z13, h9, hf⟩ := bnd_open hf
                      refine m_callVi (As := [.int x5, .int x10]) (rest := []) X hM hl mc_isOf (c_isOf h9) rfl (Nat.le_of_ble_eq_true rfl) (Nat.le_of_ble_eq_true rfl) rfl dX6_gift_83 (fun H locs hM => ?_)
                      refine g_iconst (v := 1) G dX6_gift_86 rfl ?_
                      obtain ⟨j151, hj151, hf⟩ := jn_open hf
                      have J151 : ∀ (x11 : Int32) (x12 : Int32) (z14 : MS) (H : Heap) (locs : List Loc), j151 x11 x12 z14 = some (r, z') → MI D o ad H0 z14 H locs → ∀ ls : Array Slot, lv_has ls 9 [(0, .ref o), (1, .int a1), (2, .int a2), (3, .int a3), (4, .int x11), (5, .int x12), (6, .int (bI r4)), (7, .int x5), (8, .int x10)] → Z H locs 0 0 (F0 m 151 ls []) := by
                        intro x11 x12 z14 H locs hf hM ls hl
                        rw [hj151] at hf
                        refine g_iinc (v := x10 + 1) (lv' := [(8, .int (x10 + 1)), (0, .ref o), (1, .int a1), (2, .int a2), (3, .int a3), (4, .int x11), (5, .int x12), (6, .int (bI r4)), (7, .int x5)]) G dX6_gift_151 hl (k := 8) rfl rfl (Nat.le_of_ble_eq_true rfl) rfl (fun ls hl => ?_)
                        refine g_goto (tgt := 69) G dX6_gift_154 rfl ?_
                        exact ih69 _ _ _ _ _ _ hf hM ls (lv_sub hl [1, 2, 3, 4, 5, 6, 7, 8, 0] rfl)
                      refine g_icmp_eq (tgt := 151) G dX6_gift_87 rfl (fun c9 => ?_) (fun c9 => ?_)
                      · have hf := it_pos c9 hf
                        exact J151 _ _ _ _ _ hf hM ls (lv_sub hl [0, 1, 2, 3, 4, 5, 6, 7, 8] rfl)
                      · have hf := it_neg c9 hf
                        refine g_iload G dX6_gift_90 (lv_at hl 4 rfl) ?_
                        refine g_iconst (v := (-1)) G dX6_gift_92 rfl ?_
                        obtain ⟨j122, hj122, hf⟩ := jn_open hf
                        have J122 : ∀ (z15 : MS) (H : Heap) (locs : List Loc), j122 z15 = some (r, z') → MI D o ad H0 z15 H locs → ∀ ls : Array Slot, lv_has ls 9 [(0, .ref o), (1, .int a1), (2, .int a2), (3, .int a3), (4, .int x8), (5, .int x9), (6, .int (bI r4)), (7, .int x5), (8, .int x10)] → Z H locs 0 0 (F0 m 122 ls []) := by
                          intro z15 H locs hf hM ls hl
                          rw [hj122] at hf
                          refine g_aload_n G dX6_gift_122 rfl (lv_at hl 0 rfl) ?_
                          refine g_iload G dX6_gift_123 (lv_at hl 7 rfl) ?_
                          refine g_iload G dX6_gift_125 (lv_at hl 8 rfl) ?_
                          refine g_iconst (v := 1) G dX6_gift_127 rfl ?_
                          obtain ⟨z16, h10, hf⟩ := bnv_open hf
                          refine m_callVv (As := [.int x5, .int x10, .int 1]) (rest := []) X hM hl mc_makes (c_makes h10) rfl (Nat.le_of_ble_eq_true rfl) (Nat.le_of_ble_eq_true rfl) rfl dX6_gift_128 (fun H locs hM => ?_)
                          refine g_aload_n G dX6_gift_131 rfl (lv_at hl 0 rfl) ?_
                          refine g_iload_n G dX6_gift_132 rfl (lv_at hl 1 rfl) ?_
                          refine g_iload_n G dX6_gift_133 rfl (lv_at hl 2 rfl) ?_
                          obtain ⟨r8, z17, h11, hf⟩ := bnd_open hf
                          refine m_callVi (As := [.int a1, .int a2]) (rest := []) X hM hl mc_isDoctorBehind (c_isDoctorBehind h11) rfl (Nat.le_of_ble_eq_true rfl) (Nat.le_of_ble_eq_true rfl) rfl dX6_gift_134 (fun H locs hM => ?_)
                          refine g_if_ne (tgt := 143) G dX6_gift_137 rfl (fun c10 => ?_) (fun c10 => ?_)
                          · have hf := it_neg c10 hf
                            refine g_iload G dX6_gift_143 (lv_at hl 7 rfl) ?_
                            refine g_istore (lv' := [(4, .int x5), (0, .ref o), (1, .int a1), (2, .int a2), (3, .int a3), (5, .int x9), (6, .int (bI r4)), (7, .int x5), (8, .int x10)]) G dX6_gift_145 hl (Nat.le_of_ble_eq_true rfl) rfl (fun ls hl => ?_)
                            refine g_iload G dX6_gift_147 (lv_at hl 8 rfl) ?_
                            refine g_istore (lv' := [(5, .int x10), (4, .int x5), (0, .ref o), (1, .int a1), (2, .int a2), (3, .int a3), (6, .int (bI r4)), (7, .int x5), (8, .int x10)]) G dX6_gift_149 hl (Nat.le_of_ble_eq_true rfl) rfl (fun ls hl => ?_)
                            exact J151 _ _ _ _ _ hf hM ls (lv_sub hl [2, 3, 4, 5, 1, 0, 6, 7, 8] rfl)
                          · have hf := it_pos c10 hf
                            refine g_goto (tgt := 151) G dX6_gift_140 rfl ?_
                            exact J151 _ _ _ _ _ hf hM ls (lv_sub hl [0, 1, 2, 3, 4, 5, 6, 7, 8] rfl)
                        refine g_icmp_eq (tgt := 122) G dX6_gift_93 rfl (fun c11 => ?_) (fun c11 => ?_)
                        · have hf := it_pos c11 hf
                          exact J122 _ _ _ hf hM ls (lv_sub hl [0, 1, 2, 3, 4, 5, 6, 7, 8] rfl)
                        · have hf := it_neg c11 hf
                          refine g_aload_n G dX6_gift_96 rfl (lv_at hl 0 rfl) ?_
                          refine mg_a X hM mf_41 dX6_gift_97 ?_
                          refine g_bipush (v := 8) G dX6_gift_100 rfl ?_
                          refine g_iload G dX6_gift_102 (lv_at hl 8 rfl) ?_
                          refine g_iadd G dX6_gift_104 ?_
                          obtain ⟨b1, hf⟩ := ck_open hf
                          refine m_iald X hM (mIs.of mf_41) b1 dX6_gift_105 ?_
                          refine g_aload_n G dX6_gift_106 rfl (lv_at hl 0 rfl) ?_
                          refine mg_a X hM mf_41 dX6_gift_107 ?_
                          refine g_bipush (v := 8) G dX6_gift_110 rfl ?_
                          refine g_iload G dX6_gift_112 (lv_at hl 5 rfl) ?_
                          refine g_iadd G dX6_gift_114 ?_
                          obtain ⟨b2, hf⟩ := ck_open hf
                          refine m_iald X hM (mIs.of mf_41) b2 dX6_gift_115 ?_
                          refine g_icmp_lt (tgt := 122) G dX6_gift_116 rfl (fun c12 => ?_) (fun c12 => ?_)
                          · have hf := it_pos c12 hf
                            exact J122 _ _ _ hf hM ls (lv_sub hl [0, 1, 2, 3, 4, 5, 6, 7, 8] rfl)
                          · have hf := it_neg c12 hf
                            refine g_goto (tgt := 151) G dX6_gift_119 rfl ?_
                            exact J151 _ _ _ _ _ hf hM ls (lv_sub hl [0, 1, 2, 3, 4, 5, 6, 7, 8] rfl)
                exact L69 FU _ _ _ _ _ _ hf hM ls (lv_sub hl [1, 2, 3, 4, 5, 6, 7, 8, 0] rfl)
        exact L52 FU _ _ _ _ _ _ hf hM ls (lv_sub hl [4, 5, 6, 7, 3, 2, 1, 0] rfl)
      · have hf := it_pos c3 hf
        refine g_iconst (v := (-1)) G dX6_gift_29 rfl ?_
        exact m_iret X hM hf dX6_gift_30
noncomputable def m_law_L45 (x5 : Int32) (k84 : MS → Option (Int32 × MS)) (s45 : Int32 → MS → Option (Int32 × MS)) (x8 : Int32) (z13 : MS) : Option (Int32 × MS) :=
  bnd (m_personMany z13) fun r5 z14 =>
  if r5 ≤ x8 then
    k84 z14
  else
    bnd (m_hasPassed x8 z14) fun r6 z15 =>
    jn (fun (z16 : MS) =>
      s45 (x8 + 1) z16) fun j78 =>
    if (bI r6) = 0 then
      ck (inb ((1 + (5 * x8)) + 3) (mN 53)) <|
      nm (wA z15 53 (Int32.toNatClampNeg ((1 + (5 * x8)) + 3)) x5) fun z17 =>
      j78 z17
    else
      j78 z15
noncomputable def m_law_L35 (a1 : Int32) (k126 : Int32 → Int32 → MS → Option (Int32 × MS)) (s35 : Int32 → Int32 → Int32 → MS → Option (Int32 × MS)) (x3 : Int32) (x4 : Int32) (x5 : Int32) (z6 : MS) : Option (Int32 × MS) :=
  if 9 < x5 then
    k126 x3 x4 z6
  else
    jn (fun (z7 : MS) =>
      bnv (m_yearsGo a1 z7) fun z8 =>
      bnd (m_thoseWho 2 z8) fun r3 z9 =>
      bnd (m_bits r3 z9) fun r4 z10 =>
      bnv (m_triesAnew z10) fun z11 =>
      jn (fun (x6 : Int32) (x7 : Int32) (z12 : MS) =>
        s35 x6 x7 (x5 + 1) z12) fun j120 =>
      if x4 < r4 then
        j120 x5 r4 z11
      else
        j120 x3 x4 z11) fun k84 =>
    fx (m_law_L45 x5 k84) (fun _ _ => none) FU 0 z6
noncomputable def m_law (a1 : Int32) (a2 : Int32) (z : MS) : Option (Int32 × MS) :=
  bnd (m_isAhead a1 0 20 z) fun r1 z1 =>
  if (bI r1) = 0 then
    some ((-1), z1)
  else
    bnd (m_isIn (Int32.toInt64 a2) 0 1 z1) fun r2 z2 =>
    if (bI r2) = 0 then
      some ((-1), z2)
    else
      bnv (m_putsAside z2) fun z3 =>
      jn (fun (x1 : Int32) (x2 : Int32) (z4 : MS) =>
        bnv (m_takesBack z4) fun z5 =>
        if a2 = 0 then
          some (x1, z5)
        else
          some (x2, z5)) fun k126 =>
      fx (m_law_L35 a1 k126) (fun _ _ _ _ => none) FU 0 (-1) 0 z3
set_option maxHeartbeats 1000000 in
theorem c_law {l : Launch} {D : MD} {o : Nat} {ad : Nat → Nat} {a1 : Int32} {a2 : Int32} {z z' : MS} {r : Int32} (hf : m_law a1 a2 z = some (r, z')) : MMet l D o ad yX6_law cX6_law 7 (some .int) 9 [.ref o, .int a1, .int a2] z z' (some (.int r)) := by
  unfold m_law at hf
  refine m_head pnX6 rfl (Nat.le_of_ble_eq_true rfl) (fun m Z H0 ls X hM hl => ?_)
  have G := X.g
  have hl : lv_has ls 7 [(0, .ref o), (1, .int a1), (2, .int a2)] := hl
  refine g_aload_n G dX6_law_0 rfl (lv_at hl 0 rfl) ?_
  refine g_iload_n G dX6_law_1 rfl (lv_at hl 1 rfl) ?_
  refine g_iconst (v := 0) G dX6_law_2 rfl ?_
  refine g_bipush (v := 20) G dX6_law_3 rfl ?_
  obtain ⟨r1, z1, h1, hf⟩ := bnd_open hf
  refine m_callVi (As := [.int a1, .int 0, .int 20]) (rest := []) X hM hl mc_isAhead (c_isAhead h1) rfl (Nat.le_of_ble_eq_true rfl) (Nat.le_of_ble_eq_true rfl) rfl dX6_law_5 (fun H locs hM => ?_)
  refine g_if_eq (tgt := 21) G dX6_law_8 rfl (fun c1 => ?_) (fun c1 => ?_)
  · have hf := it_pos c1 hf
    refine g_iconst (v := (-1)) G dX6_law_21 rfl ?_
    exact m_iret X hM hf dX6_law_22
  · have hf := it_neg c1 hf
    refine g_iload_n G dX6_law_11 rfl (lv_at hl 2 rfl) ?_
    refine g_i2l (v := Int32.toInt64 a2) G dX6_law_12 rfl ?_
    refine g_lconst (v := 0) G dX6_law_13 rfl ?_
    refine g_lconst (v := 1) G dX6_law_14 rfl ?_
    obtain ⟨r2, z2, h2, hf⟩ := bnd_open hf
    refine m_callSi (As := [.long (Int32.toInt64 a2), .long 0, .long 1]) (rest := []) X hM hl mc_isIn (c_isIn h2) rfl (Nat.le_of_ble_eq_true rfl) (Nat.le_of_ble_eq_true rfl) rfl dX6_law_15 (fun H locs hM => ?_)
    refine g_if_ne (tgt := 23) G dX6_law_18 rfl (fun c2 => ?_) (fun c2 => ?_)
    · have hf := it_neg c2 hf
      refine g_iconst (v := 0) G dX6_law_23 rfl ?_
      refine g_istore_n (lv' := [(3, .int 0), (0, .ref o), (1, .int a1), (2, .int a2)]) G dX6_law_24 rfl hl (Nat.le_of_ble_eq_true rfl) rfl (fun ls hl => ?_)
      refine g_iconst (v := (-1)) G dX6_law_25 rfl ?_
      refine g_istore (lv' := [(4, .int (-1)), (3, .int 0), (0, .ref o), (1, .int a1), (2, .int a2)]) G dX6_law_26 hl (Nat.le_of_ble_eq_true rfl) rfl (fun ls hl => ?_)
      refine g_aload_n G dX6_law_28 rfl (lv_at hl 2 rfl) ?_
      obtain ⟨z3, h3, hf⟩ := bnv_open hf
      refine m_callVv (As := []) (rest := []) X hM hl mc_putsAside (c_putsAside h3) rfl (Nat.le_of_ble_eq_true rfl) (Nat.le_of_ble_eq_true rfl) rfl dX6_law_29 (fun H locs hM => ?_)
      refine g_iconst (v := 0) G dX6_law_32 rfl ?_
      refine g_istore (lv' := [(5, .int 0), (4, .int (-1)), (3, .int 0), (0, .ref o), (1, .int a1), (2, .int a2)]) G dX6_law_33 hl (Nat.le_of_ble_eq_true rfl) rfl (fun ls hl => ?_)
      obtain ⟨k126, hk126, hf⟩ := jn_open hf
      have K126 : ∀ (x1 : Int32) (x2 : Int32) (z4 : MS) (H : Heap) (locs : List Loc), k126 x1 x2 z4 = some (r, z') → MI D o ad H0 z4 H locs → ∀ ls : Array Slot, lv_has ls 7 [(0, .ref o), (2, .int a2), (3, .int x1), (4, .int x2)] → Z H locs 0 0 (F0 m 126 ls []) := by
        intro x1 x2 z4 H locs hf hM ls hl
        rw [hk126] at hf
        refine g_aload_n G dX6_law_126 rfl (lv_at hl 0 rfl) ?_
        obtain ⟨z5, h4, hf⟩ := bnv_open hf
        refine m_callVv (As := []) (rest := []) X hM hl mc_takesBack (c_takesBack h4) rfl (Nat.le_of_ble_eq_true rfl) (Nat.le_of_ble_eq_true rfl) rfl dX6_law_127 (fun H locs hM => ?_)
        refine g_iload_n G dX6_law_130 rfl (lv_at hl 1 rfl) ?_
        refine g_if_ne (tgt := 138) G dX6_law_131 rfl (fun c3 => ?_) (fun c3 => ?_)
        · have hf := it_neg c3 hf
          refine g_iload G dX6_law_138 (lv_at hl 3 rfl) ?_
          exact m_iret X hM hf dX6_law_140
        · have hf := it_pos c3 hf
          refine g_iload_n G dX6_law_134 rfl (lv_at hl 2 rfl) ?_
          refine g_goto (tgt := 140) G dX6_law_135 rfl ?_
          exact m_iret X hM hf dX6_law_140
      have L35 : ∀ (n : Nat) (x3 : Int32) (x4 : Int32) (x5 : Int32) (z6 : MS) (H : Heap) (locs : List Loc), fx (m_law_L35 a1 k126) (fun _ _ _ _ => none) n x3 x4 x5 z6 = some (r, z') → MI D o ad H0 z6 H locs → ∀ ls : Array Slot, lv_has ls 7 [(0, .ref o), (1, .int a1), (2, .int a2), (3, .int x3), (4, .int x4), (5, .int x5)] → Z H locs 0 0 (F0 m 35 ls []) := by
        intro n
        induction n with
        | zero => intro x3 x4 x5 z6 H locs hf; exact absurd hf (by intro q; cases q)
        | succ n ih35 =>
          intro x3 x4 x5 z6 H locs hf hM ls hl
          rw [fx_s] at hf
          generalize fx (m_law_L35 a1 k126) (fun _ _ _ _ => none) n = s35 at hf ih35
          unfold m_law_L35 at hf
          refine g_iload G dX6_law_35 (lv_at hl 5 rfl) ?_
          refine g_bipush (v := 9) G dX6_law_37 rfl ?_
          refine g_icmp_gt (tgt := 126) G dX6_law_39 rfl (fun c4 => ?_) (fun c4 => ?_)
          · have hf := it_pos c4 hf
            exact K126 _ _ _ _ _ hf hM ls (lv_sub hl [0, 2, 3, 4] rfl)
          · have hf := it_neg c4 hf
            refine g_iconst (v := 0) G dX6_law_42 rfl ?_
            refine g_istore (lv' := [(6, .int 0), (0, .ref o), (1, .int a1), (2, .int a2), (3, .int x3), (4, .int x4), (5, .int x5)]) G dX6_law_43 hl (Nat.le_of_ble_eq_true rfl) rfl (fun ls hl => ?_)
            obtain ⟨k84, hk84, hf⟩ := jn_open hf
            have K84 : ∀ (z7 : MS) (H : Heap) (locs : List Loc), k84 z7 = some (r, z') → MI D o ad H0 z7 H locs → ∀ ls : Array Slot, lv_has ls 7 [(0, .ref o), (1, .int a1), (2, .int a2), (3, .int x3), (4, .int x4), (5, .int x5)] → Z H locs 0 0 (F0 m 84 ls []) := by
              intro z7 H locs hf hM ls hl
              rw [hk84] at hf
              refine g_aload_n G dX6_law_84 rfl (lv_at hl 0 rfl) ?_
              refine g_iload_n G dX6_law_85 rfl (lv_at hl 1 rfl) ?_
              obtain ⟨z8, h5, hf⟩ := bnv_open hf
              refine m_callVv (As := [.int a1]) (rest := []) X hM hl mc_yearsGo (c_yearsGo h5) rfl (Nat.le_of_ble_eq_true rfl) (Nat.le_of_ble_eq_true rfl) rfl dX6_law_86 (fun H locs hM => ?_)
              refine g_aload_n G dX6_law_89 rfl (lv_at hl 0 rfl) ?_
              refine g_iconst (v := 2) G dX6_law_90 rfl ?_
              obtain ⟨r3, z9, h6, hf⟩ := bnd_open hf
              refine m_callVi (As := [.int 2]) (rest := []) X hM hl mc_thoseWho (c_thoseWho h6) rfl (Nat.le_of_ble_eq_true rfl) (Nat.le_of_ble_eq_true rfl) rfl dX6_law_91 (fun H locs hM => ?_)
              obtain ⟨r4, z10, h7, hf⟩ := bnd_open hf
              refine m_callSi (As := [.int r3]) (rest := []) X hM hl mc_bits (c_bits h7) rfl (Nat.le_of_ble_eq_true rfl) (Nat.le_of_ble_eq_true rfl) rfl dX6_law_94 (fun H locs hM => ?_)
              refine g_istore (lv' := [(6, .int r4), (0, .ref o), (1, .int a1), (2, .int a2), (3, .int x3), (4, .int x4), (5, .int x5)]) G dX6_law_97 hl (Nat.le_of_ble_eq_true rfl) rfl (fun ls hl => ?_)
              refine g_aload_n G dX6_law_99 rfl (lv_at hl 1 rfl) ?_
              obtain ⟨z11, h8, hf⟩ := bnv_open hf
              refine m_callVv (As := []) (rest := []) X hM hl mc_triesAnew (c_triesAnew h8) rfl (Nat.le_of_ble_eq_true rfl) (Nat.le_of_ble_eq_true rfl) rfl dX6_law_100 (fun H locs hM => ?_)
              refine g_iload G dX6_law_103 (lv_at hl 0 rfl) ?_
              refine g_iload G dX6_law_105 (lv_at hl 5 rfl) ?_
              obtain ⟨j120, hj120, hf⟩ := jn_open hf
              have J120 : ∀ (x6 : Int32) (x7 : Int32) (z12 : MS) (H : Heap) (locs : List Loc), j120 x6 x7 z12 = some (r, z') → MI D o ad H0 z12 H locs → ∀ ls : Array Slot, lv_has ls 7 [(0, .ref o), (1, .int a1), (2, .int a2), (3, .int x6), (4, .int x7), (5, .int x5)] → Z H locs 0 0 (F0 m 120 ls []) := by
                intro x6 x7 z12 H locs hf hM ls hl
                rw [hj120] at hf
                refine g_iinc (v := x5 + 1) (lv' := [(5, .int (x5 + 1)), (0, .ref o), (1, .int a1), (2, .int a2), (3, .int x6), (4, .int x7)]) G dX6_law_120 hl (k := 5) rfl rfl (Nat.le_of_ble_eq_true rfl) rfl (fun ls hl => ?_)
                refine g_goto (tgt := 35) G dX6_law_123 rfl ?_
                exact ih35 _ _ _ _ _ _ hf hM ls (lv_sub hl [1, 2, 3, 4, 5, 0] rfl)
              refine g_icmp_gt (tgt := 113) G dX6_law_107 rfl (fun c5 => ?_) (fun c5 => ?_)
              · have hf := it_pos c5 hf
                refine g_iload G dX6_law_113 (lv_at hl 0 rfl) ?_
                refine g_istore (lv' := [(4, .int r4), (6, .int r4), (0, .ref o), (1, .int a1), (2, .int a2), (3, .int x3), (5, .int x5)]) G dX6_law_115 hl (Nat.le_of_ble_eq_true rfl) rfl (fun ls hl => ?_)
                refine g_iload G dX6_law_117 (lv_at hl 6 rfl) ?_
                refine g_istore_n (lv' := [(3, .int x5), (4, .int r4), (6, .int r4), (0, .ref o), (1, .int a1), (2, .int a2), (5, .int x5)]) G dX6_law_119 rfl hl (Nat.le_of_ble_eq_true rfl) rfl (fun ls hl => ?_)
                exact J120 _ _ _ _ _ hf hM ls (lv_sub hl [3, 4, 5, 0, 1, 6] rfl)
              · have hf := it_neg c5 hf
                refine g_goto (tgt := 120) G dX6_law_110 rfl ?_
                exact J120 _ _ _ _ _ hf hM ls (lv_sub hl [1, 2, 3, 4, 5, 6] rfl)
            have L45 : ∀ (n : Nat) (x8 : Int32) (z13 : MS) (H : Heap) (locs : List Loc), fx (m_law_L45 x5 k84) (fun _ _ => none) n x8 z13 = some (r, z') → MI D o ad H0 z13 H locs → ∀ ls : Array Slot, lv_has ls 7 [(0, .ref o), (1, .int a1), (2, .int a2), (3, .int x3), (4, .int x4), (5, .int x5), (6, .int x8)] → Z H locs 0 0 (F0 m 45 ls []) := by
              intro n
              induction n with
              | zero => intro x8 z13 H locs hf; exact absurd hf (by intro q; cases q)
              | succ n ih45 =>
                intro x8 z13 H locs hf hM ls hl
                rw [fx_s] at hf
                generalize fx (m_law_L45 x5 k84) (fun _ _ => none) n = s45 at hf ih45
                unfold m_law_L45 at hf
                refine g_iload G dX6_law_45 (lv_at hl 6 rfl) ?_
                refine g_aload_n G dX6_law_47 rfl (lv_at hl 0 rfl) ?_
                obtain ⟨r5, z14, h9, hf⟩ := bnd_open hf
                refine m_callVi (As := []) (rest := [.int x8]) X hM hl mc_personMany (c_personMany h9) rfl (Nat.le_of_ble_eq_true rfl) (Nat.le_of_ble_eq_true rfl) rfl dX6_law_48 (fun H locs hM => ?_)
                refine g_icmp_ge (tgt := 84) G dX6_law_51 rfl (fun c6 => ?_) (fun c6 => ?_)
                · have hf := it_pos c6 hf
                  exact K84 _ _ _ hf hM ls (lv_sub hl [0, 1, 2, 3, 4, 5] rfl)
                · have hf := it_neg c6 hf
                  refine g_aload_n G dX6_law_54 rfl (lv_at hl 0 rfl) ?_
                  refine g_iload G dX6_law_55 (lv_at hl 6 rfl) ?_
                  obtain ⟨r6, z15, h10, hf⟩ := bnd_open hf
                  refine m_callVi (As := [.int x8]) (rest := []) X hM hl mc_hasPassed (c_hasPassed h10) rfl (Nat.le_of_ble_eq_true rfl) (Nat.le_of_ble_eq_true rfl) rfl dX6_law_57 (fun H locs hM => ?_)
                  obtain ⟨j78, hj78, hf⟩ := jn_open hf
                  have J78 : ∀ (z16 : MS) (H : Heap) (locs : List Loc), j78 z16 = some (r, z') → MI D o ad H0 z16 H locs → ∀ ls : Array Slot, lv_has ls 7 [(0, .ref o), (1, .int a1), (2, .int a2), (3, .int x3), (4, .int x4), (5, .int x5), (6, .int x8)] → Z H locs 0 0 (F0 m 78 ls []) := by
                    intro z16 H locs hf hM ls hl
                    rw [hj78] at hf
                    refine g_iinc (v := x8 + 1) (lv' := [(6, .int (x8 + 1)), (0, .ref o), (1, .int a1), (2, .int a2), (3, .int x3), (4, .int x4), (5, .int x5)]) G dX6_law_78 hl (k := 6) rfl rfl (Nat.le_of_ble_eq_true rfl) rfl (fun ls hl => ?_)
                    refine g_goto (tgt := 45) G dX6_law_81 rfl ?_
                    exact ih45 _ _ _ _ hf hM ls (lv_sub hl [1, 2, 3, 4, 5, 6, 0] rfl)
                  refine g_if_ne (tgt := 78) G dX6_law_60 rfl (fun c7 => ?_) (fun c7 => ?_)
                  · have hf := it_neg c7 hf
                    exact J78 _ _ _ hf hM ls (lv_sub hl [0, 1, 2, 3, 4, 5, 6] rfl)
                  · have hf := it_pos c7 hf
                    refine g_aload_n G dX6_law_63 rfl (lv_at hl 0 rfl) ?_
                    refine mg_a X hM mf_53 dX6_law_64 ?_
                    refine g_iconst (v := 1) G dX6_law_67 rfl ?_
                    refine g_iconst (v := 5) G dX6_law_68 rfl ?_
                    refine g_iload G dX6_law_69 (lv_at hl 6 rfl) ?_
                    refine g_imul G dX6_law_71 ?_
                    refine g_iadd G dX6_law_72 ?_
                    refine g_iconst (v := 3) G dX6_law_73 rfl ?_
                    refine g_iadd G dX6_law_74 ?_
                    refine g_iload G dX6_law_75 (lv_at hl 5 rfl) ?_
                    obtain ⟨b1, hf⟩ := ck_open hf
                    obtain ⟨z17, hz17, hf⟩ := nm_open hf
                    refine m_iast X hM (mIs.of mf_53) b1 hz17 dX6_law_77 (fun H locs hM => ?_)
                    exact J78 _ _ _ hf hM ls (lv_sub hl [0, 1, 2, 3, 4, 5, 6] rfl)
            exact L45 FU _ _ _ _ hf hM ls (lv_sub hl [1, 2, 3, 4, 5, 6, 0] rfl)
      exact L35 FU _ _ _ _ _ _ hf hM ls (lv_sub hl [3, 4, 5, 2, 1, 0] rfl)
    · have hf := it_pos c2 hf
      refine g_iconst (v := (-1)) G dX6_law_21 rfl ?_
      exact m_iret X hM hf dX6_law_22
noncomputable def m_hear_L100 (z : MS) (k123 : MS → Option (Int32 × MS)) (s100 : Int32 → MS → Option (Int32 × MS)) (x3 : Int32) (z6 : MS) : Option (Int32 × MS) :=
  if (mI z 1) ≤ x3 then
    k123 z6
  else
    ck (inb x3 (mN 0)) <|
    ck (inb x3 (mN 61)) <|
    nm (wA z6 61 (Int32.toNatClampNeg x3) (mA z6 0 (Int32.toNatClampNeg x3))) fun z7 =>
    s100 (x3 + 1) z7
noncomputable def m_hear_L36 (z : MS) (k82 : Bool → MS → Option (Int32 × MS)) (s36 : Bool → Int32 → MS → Option (Int32 × MS)) (x4 : Bool) (x5 : Int32) (z9 : MS) : Option (Int32 × MS) :=
  if (mI z 1) ≤ x5 then
    k82 x4 z9
  else
    if (bI x4) = 0 then
      k82 x4 z9
    else
      ck (inb x5 (mN 0)) <|
      bnd (m_isPerson (mA z9 0 (Int32.toNatClampNeg x5)) z9) fun r1 z10 =>
      jn (fun (x6 : Bool) (z11 : MS) =>
        s36 x6 (x5 + 2) z11) fun j75 =>
      jn (fun (z12 : MS) =>
        j75 false z12) fun j74 =>
      if (bI r1) = 0 then
        j74 z10
      else
        ck (inb (x5 + 1) (mN 0)) <|
        if 3 ≤ (mA z10 0 (Int32.toNatClampNeg (x5 + 1))) then
          j74 z10
        else
          j75 true z10
noncomputable def m_hear (z : MS) : Option (Int32 × MS) :=
  nm (wI z 1 0) fun z1 =>
  jn (fun (x1 : Bool) (z2 : MS) =>
    jn (fun (x2 : Bool) (z3 : MS) =>
      if (bI x2) = 0 then
        nm (wA z3 9 (Int32.toNatClampNeg 1) ((mA z3 9 (Int32.toNatClampNeg 1)) + 1)) fun z8 =>
        some ((-1), z8)
      else
        jn (fun (z4 : MS) =>
          nm (wI z4 60 ((mI z 1) / 2)) fun z5 =>
          some ((mI z5 60), z5)) fun k123 =>
        fx (m_hear_L100 z k123) (fun _ _ => none) FU 0 z3) fun k82 =>
    fx (m_hear_L36 z k82) (fun _ _ _ => none) FU x1 0 z2) fun j33 =>
  jn (fun (z13 : MS) =>
    j33 false z13) fun j32 =>
  if (mI z 1) ≤ 0 then
    j32 z1
  else
    if ((mI z 1) - (mI z 1) / 2 * 2) = 0 then
      if 16 < ((mI z 1) / 2) then
        j32 z1
      else
        j33 true z1
    else
      j32 z1
set_option maxHeartbeats 1000000 in
theorem c_hear {l : Launch} {D : MD} {o : Nat} {ad : Nat → Nat} {z z' : MS} {r : Int32} (hf : m_hear z = some (r, z')) : MMet l D o ad yX6_hear cX6_hear 4 (some .int) 3 [.ref o] z z' (some (.int r)) := by
  unfold m_hear at hf
  refine m_head pnX6 rfl (Nat.le_of_ble_eq_true rfl) (fun m Z H0 ls X hM hl => ?_)
  have G := X.g
  have hl : lv_has ls 4 [(0, .ref o)] := hl
  refine g_aload_n G dX6_hear_0 rfl (lv_at hl 0 rfl) ?_
  refine mg_i X hM mf_1 dX6_hear_1 ?_
  refine g_istore_n (lv' := [(1, .int (mI z 1)), (0, .ref o)]) G dX6_hear_4 rfl hl (Nat.le_of_ble_eq_true rfl) rfl (fun ls hl => ?_)
  refine g_aload_n G dX6_hear_5 rfl (lv_at hl 1 rfl) ?_
  refine g_iconst (v := 0) G dX6_hear_6 rfl ?_
  obtain ⟨z1, hz1, hf⟩ := nm_open hf
  refine mp_i X hM mf_1 hz1 dX6_hear_7 (fun H locs hM => ?_)
  refine g_iload_n G dX6_hear_10 rfl (lv_at hl 0 rfl) ?_
  obtain ⟨j33, hj33, hf⟩ := jn_open hf
  have J33 : ∀ (x1 : Bool) (z2 : MS) (H : Heap) (locs : List Loc), j33 x1 z2 = some (r, z') → MI D o ad H0 z2 H locs → ∀ ls : Array Slot, lv_has ls 4 [(0, .ref o), (1, .int (mI z 1))] → Z H locs 0 0 (F0 m 33 ls [.int (bI x1)]) := by
    intro x1 z2 H locs hf hM ls hl
    rw [hj33] at hf
    refine g_istore_n (lv' := [(2, .int (bI x1)), (0, .ref o), (1, .int (mI z 1))]) G dX6_hear_33 rfl hl (Nat.le_of_ble_eq_true rfl) rfl (fun ls hl => ?_)
    refine g_iconst (v := 0) G dX6_hear_34 rfl ?_
    refine g_istore_n (lv' := [(3, .int 0), (2, .int (bI x1)), (0, .ref o), (1, .int (mI z 1))]) G dX6_hear_35 rfl hl (Nat.le_of_ble_eq_true rfl) rfl (fun ls hl => ?_)
    obtain ⟨k82, hk82, hf⟩ := jn_open hf
    have K82 : ∀ (x2 : Bool) (z3 : MS) (H : Heap) (locs : List Loc), k82 x2 z3 = some (r, z') → MI D o ad H0 z3 H locs → ∀ ls : Array Slot, lv_has ls 4 [(0, .ref o), (1, .int (mI z 1)), (2, .int (bI x2))] → Z H locs 0 0 (F0 m 82 ls []) := by
      intro x2 z3 H locs hf hM ls hl
      rw [hk82] at hf
      refine g_iload_n G dX6_hear_82 rfl (lv_at hl 2 rfl) ?_
      refine g_if_ne (tgt := 98) G dX6_hear_83 rfl (fun c1 => ?_) (fun c1 => ?_)
      · have hf := it_neg c1 hf
        refine g_iconst (v := 0) G dX6_hear_98 rfl ?_
        refine g_istore_n (lv' := [(3, .int 0), (0, .ref o), (1, .int (mI z 1)), (2, .int (bI x2))]) G dX6_hear_99 rfl hl (Nat.le_of_ble_eq_true rfl) rfl (fun ls hl => ?_)
        obtain ⟨k123, hk123, hf⟩ := jn_open hf
        have K123 : ∀ (z4 : MS) (H : Heap) (locs : List Loc), k123 z4 = some (r, z') → MI D o ad H0 z4 H locs → ∀ ls : Array Slot, lv_has ls 4 [(0, .ref o), (1, .int (mI z 1))] → Z H locs 0 0 (F0 m 123 ls []) := by
          intro z4 H locs hf hM ls hl
          rw [hk123] at hf
          refine g_aload_n G dX6_hear_123 rfl (lv_at hl 0 rfl) ?_
          refine g_iload_n G dX6_hear_124 rfl (lv_at hl 1 rfl) ?_
          refine g_iconst (v := 2) G dX6_hear_125 rfl ?_
          refine g_idiv G dX6_hear_126 (by decide) ?_
          obtain ⟨z5, hz5, hf⟩ := nm_open hf
          refine mp_i X hM mf_60 hz5 dX6_hear_127 (fun H locs hM => ?_)
          refine g_aload_n G dX6_hear_130 rfl (lv_at hl 0 rfl) ?_
          refine mg_i X hM mf_60 dX6_hear_131 ?_
          exact m_iret X hM hf dX6_hear_134
        have L100 : ∀ (n : Nat) (x3 : Int32) (z6 : MS) (H : Heap) (locs : List Loc), fx (m_hear_L100 z k123) (fun _ _ => none) n x3 z6 = some (r, z') → MI D o ad H0 z6 H locs → ∀ ls : Array Slot, lv_has ls 4 [(0, .ref o), (1, .int (mI z 1)), (3, .int x3)] → Z H locs 0 0 (F0 m 100 ls []) := by
          intro n
          induction n with
          | zero => intro x3 z6 H locs hf; exact absurd hf (by intro q; cases q)
          | succ n ih100 =>
            intro x3 z6 H locs hf hM ls hl
            rw [fx_s] at hf
            generalize fx (m_hear_L100 z k123) (fun _ _ => none) n = s100 at hf ih100
            unfold m_hear_L100 at hf
            refine g_iload_n G dX6_hear_100 rfl (lv_at hl 2 rfl) ?_
            refine g_iload_n G dX6_hear_101 rfl (lv_at hl 1 rfl) ?_
            refine g_icmp_ge (tgt := 123) G dX6_hear_102 rfl (fun c2 => ?_) (fun c2 => ?_)
            · have hf := it_pos c2 hf
              exact K123 _ _ _ hf hM ls (lv_sub hl [0, 1] rfl)
            · have hf := it_neg c2 hf
              refine g_aload_n G dX6_hear_105 rfl (lv_at hl 0 rfl) ?_
              refine mg_a X hM mf_61 dX6_hear_106 ?_
              refine g_iload_n G dX6_hear_109 rfl (lv_at hl 2 rfl) ?_
              refine g_aload_n G dX6_hear_110 rfl (lv_at hl 0 rfl) ?_
              refine mg_a X hM mf_0 dX6_hear_111 ?_
              refine g_iload_n G dX6_hear_114 rfl (lv_at hl 2 rfl) ?_
              obtain ⟨b1, hf⟩ := ck_open hf
              refine m_iald X hM (mIs.of mf_0) b1 dX6_hear_115 ?_
              obtain ⟨b2, hf⟩ := ck_open hf
              obtain ⟨z7, hz7, hf⟩ := nm_open hf
              refine m_iast X hM (mIs.of mf_61) b2 hz7 dX6_hear_116 (fun H locs hM => ?_)
              refine g_iinc (v := x3 + 1) (lv' := [(3, .int (x3 + 1)), (0, .ref o), (1, .int (mI z 1))]) G dX6_hear_117 hl (k := 2) rfl rfl (Nat.le_of_ble_eq_true rfl) rfl (fun ls hl => ?_)
              refine g_goto (tgt := 100) G dX6_hear_120 rfl ?_
              exact ih100 _ _ _ _ hf hM ls (lv_sub hl [1, 2, 0] rfl)
        exact L100 FU _ _ _ _ hf hM ls (lv_sub hl [1, 2, 0] rfl)
      · have hf := it_pos c1 hf
        refine g_aload_n G dX6_hear_86 rfl (lv_at hl 0 rfl) ?_
        refine mg_a X hM mf_9 dX6_hear_87 ?_
        refine g_iconst (v := 1) G dX6_hear_90 rfl ?_
        refine g_dup2_11 G dX6_hear_91 rfl rfl ?_
        refine m_iald X hM (mIs.of mf_9) (by decide) dX6_hear_92 ?_
        refine g_iconst (v := 1) G dX6_hear_93 rfl ?_
        refine g_iadd G dX6_hear_94 ?_
        obtain ⟨z8, hz8, hf⟩ := nm_open hf
        refine m_iast X hM (mIs.of mf_9) (by decide) hz8 dX6_hear_95 (fun H locs hM => ?_)
        refine g_iconst (v := (-1)) G dX6_hear_96 rfl ?_
        exact m_iret X hM hf dX6_hear_97
    have L36 : ∀ (n : Nat) (x4 : Bool) (x5 : Int32) (z9 : MS) (H : Heap) (locs : List Loc), fx (m_hear_L36 z k82) (fun _ _ _ => none) n x4 x5 z9 = some (r, z') → MI D o ad H0 z9 H locs → ∀ ls : Array Slot, lv_has ls 4 [(0, .ref o), (1, .int (mI z 1)), (2, .int (bI x4)), (3, .int x5)] → Z H locs 0 0 (F0 m 36 ls []) := by
      intro n
      induction n with
      | zero => intro x4 x5 z9 H locs hf; exact absurd hf (by intro q; cases q)
      | succ n ih36 =>
        intro x4 x5 z9 H locs hf hM ls hl
        rw [fx_s] at hf
        generalize fx (m_hear_L36 z k82) (fun _ _ _ => none) n = s36 at hf ih36
        unfold m_hear_L36 at hf
        refine g_iload_n G dX6_hear_36 rfl (lv_at hl 3 rfl) ?_
        refine g_iload_n G dX6_hear_37 rfl (lv_at hl 1 rfl) ?_
        refine g_icmp_ge (tgt := 82) G dX6_hear_38 rfl (fun c3 => ?_) (fun c3 => ?_)
        · have hf := it_pos c3 hf
          exact K82 _ _ _ _ hf hM ls (lv_sub hl [0, 1, 2] rfl)
        · have hf := it_neg c3 hf
          refine g_iload_n G dX6_hear_41 rfl (lv_at hl 2 rfl) ?_
          refine g_if_eq (tgt := 82) G dX6_hear_42 rfl (fun c4 => ?_) (fun c4 => ?_)
          · have hf := it_pos c4 hf
            exact K82 _ _ _ _ hf hM ls (lv_sub hl [0, 1, 2] rfl)
          · have hf := it_neg c4 hf
            refine g_aload_n G dX6_hear_45 rfl (lv_at hl 0 rfl) ?_
            refine g_aload_n G dX6_hear_46 rfl (lv_at hl 0 rfl) ?_
            refine mg_a X hM mf_0 dX6_hear_47 ?_
            refine g_iload_n G dX6_hear_50 rfl (lv_at hl 3 rfl) ?_
            obtain ⟨b3, hf⟩ := ck_open hf
            refine m_iald X hM (mIs.of mf_0) b3 dX6_hear_51 ?_
            obtain ⟨r1, z10, h1, hf⟩ := bnd_open hf
            refine m_callVi (As := [.int (mA z9 0 (Int32.toNatClampNeg x5))]) (rest := []) X hM hl mc_isPerson (c_isPerson h1) rfl (Nat.le_of_ble_eq_true rfl) (Nat.le_of_ble_eq_true rfl) rfl dX6_hear_52 (fun H locs hM => ?_)
            obtain ⟨j75, hj75, hf⟩ := jn_open hf
            have J75 : ∀ (x6 : Bool) (z11 : MS) (H : Heap) (locs : List Loc), j75 x6 z11 = some (r, z') → MI D o ad H0 z11 H locs → ∀ ls : Array Slot, lv_has ls 4 [(0, .ref o), (1, .int (mI z 1)), (3, .int x5)] → Z H locs 0 0 (F0 m 75 ls [.int (bI x6)]) := by
              intro x6 z11 H locs hf hM ls hl
              rw [hj75] at hf
              refine g_istore_n (lv' := [(2, .int (bI x6)), (0, .ref o), (1, .int (mI z 1)), (3, .int x5)]) G dX6_hear_75 rfl hl (Nat.le_of_ble_eq_true rfl) rfl (fun ls hl => ?_)
              refine g_iinc (v := x5 + 2) (lv' := [(3, .int (x5 + 2)), (2, .int (bI x6)), (0, .ref o), (1, .int (mI z 1))]) G dX6_hear_76 hl (k := 3) rfl rfl (Nat.le_of_ble_eq_true rfl) rfl (fun ls hl => ?_)
              refine g_goto (tgt := 36) G dX6_hear_79 rfl ?_
              exact ih36 _ _ _ _ _ hf hM ls (lv_sub hl [2, 3, 1, 0] rfl)
            obtain ⟨j74, hj74, hf⟩ := jn_open hf
            have J74 : ∀ (z12 : MS) (H : Heap) (locs : List Loc), j74 z12 = some (r, z') → MI D o ad H0 z12 H locs → ∀ ls : Array Slot, lv_has ls 4 [(0, .ref o), (1, .int (mI z 1)), (3, .int x5)] → Z H locs 0 0 (F0 m 74 ls []) := by
              intro z12 H locs hf hM ls hl
              rw [hj74] at hf
              refine g_iconst (v := 0) G dX6_hear_74 rfl ?_
              exact J75 _ _ _ _ hf hM ls (lv_sub hl [0, 1, 2] rfl)
            refine g_if_eq (tgt := 74) G dX6_hear_55 rfl (fun c5 => ?_) (fun c5 => ?_)
            · have hf := it_pos c5 hf
              exact J74 _ _ _ hf hM ls (lv_sub hl [0, 1, 3] rfl)
            · have hf := it_neg c5 hf
              refine g_aload_n G dX6_hear_58 rfl (lv_at hl 0 rfl) ?_
              refine mg_a X hM mf_0 dX6_hear_59 ?_
              refine g_iload_n G dX6_hear_62 rfl (lv_at hl 3 rfl) ?_
              refine g_iconst (v := 1) G dX6_hear_63 rfl ?_
              refine g_iadd G dX6_hear_64 ?_
              obtain ⟨b4, hf⟩ := ck_open hf
              refine m_iald X hM (mIs.of mf_0) b4 dX6_hear_65 ?_
              refine g_iconst (v := 3) G dX6_hear_66 rfl ?_
              refine g_icmp_ge (tgt := 74) G dX6_hear_67 rfl (fun c6 => ?_) (fun c6 => ?_)
              · have hf := it_pos c6 hf
                exact J74 _ _ _ hf hM ls (lv_sub hl [0, 1, 3] rfl)
              · have hf := it_neg c6 hf
                refine g_iconst (v := 1) G dX6_hear_70 rfl ?_
                refine g_goto (tgt := 75) G dX6_hear_71 rfl ?_
                exact J75 _ _ _ _ hf hM ls (lv_sub hl [0, 1, 3] rfl)
    exact L36 FU _ _ _ _ _ hf hM ls (lv_sub hl [2, 3, 1, 0] rfl)
  obtain ⟨j32, hj32, hf⟩ := jn_open hf
  have J32 : ∀ (z13 : MS) (H : Heap) (locs : List Loc), j32 z13 = some (r, z') → MI D o ad H0 z13 H locs → ∀ ls : Array Slot, lv_has ls 4 [(0, .ref o), (1, .int (mI z 1))] → Z H locs 0 0 (F0 m 32 ls []) := by
    intro z13 H locs hf hM ls hl
    rw [hj32] at hf
    refine g_iconst (v := 0) G dX6_hear_32 rfl ?_
    exact J33 _ _ _ _ hf hM ls (lv_sub hl [0, 1] rfl)
  refine g_if_le (tgt := 32) G dX6_hear_11 rfl (fun c7 => ?_) (fun c7 => ?_)
  · have hf := it_pos c7 hf
    exact J32 _ _ _ hf hM ls (lv_sub hl [1, 0] rfl)
  · have hf := it_neg c7 hf
    refine g_iload_n G dX6_hear_14 rfl (lv_at hl 0 rfl) ?_
    refine g_iconst (v := 2) G dX6_hear_15 rfl ?_
    refine g_irem G dX6_hear_16 (by decide) ?_
    refine g_if_ne (tgt := 32) G dX6_hear_17 rfl (fun c8 => ?_) (fun c8 => ?_)
    · have hf := it_neg c8 hf
      exact J32 _ _ _ hf hM ls (lv_sub hl [1, 0] rfl)
    · have hf := it_pos c8 hf
      refine g_iload_n G dX6_hear_20 rfl (lv_at hl 0 rfl) ?_
      refine g_iconst (v := 2) G dX6_hear_21 rfl ?_
      refine g_idiv G dX6_hear_22 (by decide) ?_
      refine g_bipush (v := 16) G dX6_hear_23 rfl ?_
      refine g_icmp_gt (tgt := 32) G dX6_hear_25 rfl (fun c9 => ?_) (fun c9 => ?_)
      · have hf := it_pos c9 hf
        exact J32 _ _ _ hf hM ls (lv_sub hl [1, 0] rfl)
      · have hf := it_neg c9 hf
        refine g_iconst (v := 1) G dX6_hear_28 rfl ?_
        refine g_goto (tgt := 33) G dX6_hear_29 rfl ?_
        exact J33 _ _ _ _ hf hM ls (lv_sub hl [1, 0] rfl)
theorem mc_isSource : mcV yX6_isSource cX6_isSource 5 (some .boolean) 3 538 := ⟨lw_V q2353 q2355 qs132 q157 q2356, ⟨rfl, by decide +kernel, by decide +kernel, by decide +kernel⟩, Nat.le_of_ble_eq_true rfl⟩
noncomputable def m_isSource_L101 (s101 : Int32 → MS → Option (Bool × MS)) (x1 : Int32) (z6 : MS) : Option (Bool × MS) :=
  if (mI z6 60) ≤ x1 then
    some (true, z6)
  else
    ck (inb (2 * x1) (mN 61)) <|
    ck (inb (mA z6 61 (Int32.toNatClampNeg (2 * x1))) (mN 62)) <|
    ck (inb ((2 * x1) + 1) (mN 61)) <|
    if (mA z6 62 (Int32.toNatClampNeg (mA z6 61 (Int32.toNatClampNeg (2 * x1))))) = (mA z6 61 (Int32.toNatClampNeg ((2 * x1) + 1))) then
      s101 (x1 + 1) z6
    else
      some (false, z6)
noncomputable def m_isSource_L65 (a2 : Int32) (k94 : MS → Option (Bool × MS)) (s65 : Int32 → MS → Option (Bool × MS)) (x2 : Int32) (z7 : MS) : Option (Bool × MS) :=
  bnd (m_personMany z7) fun r2 z8 =>
  if r2 ≤ x2 then
    k94 z8
  else
    bnd (m_isOf x2 a2 z8) fun r3 z9 =>
    ck (inb x2 (mN 62)) <|
    nm (wA z9 62 (Int32.toNatClampNeg x2) r3) fun z10 =>
    s65 (x2 + 1) z10
noncomputable def m_isSource_L14 (a1 : Int32) (a2 : Int32) (k57 : MS → Option (Bool × MS)) (s14 : Int32 → MS → Option (Bool × MS)) (x3 : Int32) (z11 : MS) : Option (Bool × MS) :=
  bnd (m_personMany z11) fun r4 z12 =>
  if r4 ≤ x3 then
    k57 z12
  else
    bnd (m_isOf x3 a2 z12) fun r5 z13 =>
    jn (fun (z14 : MS) =>
      s14 (x3 + 1) z14) fun j51 =>
    if r5 = 0 then
      j51 z13
    else
      jn (fun (x4 : Int32) (z15 : MS) =>
        bnv (m_makes x3 a2 x4 z15) fun z16 =>
        j51 z16) fun j48 =>
      if x3 = a1 then
        j48 2 z13
      else
        j48 1 z13
noncomputable def m_isSource (a1 : Int32) (a2 : Int32) (a3 : Int32) (z : MS) : Option (Bool × MS) :=
  bnd (m_isOf a1 a2 z) fun r1 z1 =>
  if r1 = 0 then
    some (false, z1)
  else
    jn (fun (z2 : MS) =>
      bnv (m_yearsGo a3 z2) fun z3 =>
      jn (fun (z4 : MS) =>
        bnv (m_triesAnew z4) fun z5 =>
        fx m_isSource_L101 (fun _ _ => none) FU 0 z5) fun k94 =>
      fx (m_isSource_L65 a2 k94) (fun _ _ => none) FU 0 z3) fun k57 =>
    fx (m_isSource_L14 a1 a2 k57) (fun _ _ => none) FU 0 z1
set_option maxHeartbeats 1000000 in
theorem c_isSource {l : Launch} {D : MD} {o : Nat} {ad : Nat → Nat} {a1 : Int32} {a2 : Int32} {a3 : Int32} {z z' : MS} {r : Bool} (hf : m_isSource a1 a2 a3 z = some (r, z')) : MMet l D o ad yX6_isSource cX6_isSource 5 (some .boolean) 9 [.ref o, .int a1, .int a2, .int a3] z z' (some (.int (bI r))) := by
  unfold m_isSource at hf
  refine m_head pnX6 rfl (Nat.le_of_ble_eq_true rfl) (fun m Z H0 ls X hM hl => ?_)
  have G := X.g
  have hl : lv_has ls 5 [(0, .ref o), (1, .int a1), (2, .int a2), (3, .int a3)] := hl
  refine g_aload_n G dX6_isSource_0 rfl (lv_at hl 0 rfl) ?_
  refine g_iload_n G dX6_isSource_1 rfl (lv_at hl 1 rfl) ?_
  refine g_iload_n G dX6_isSource_2 rfl (lv_at hl 2 rfl) ?_
  obtain ⟨r1, z1, h1, hf⟩ := bnd_open hf
  refine m_callVi (As := [.int a1, .int a2]) (rest := []) X hM hl mc_isOf (c_isOf h1) rfl (Nat.le_of_ble_eq_true rfl) (Nat.le_of_ble_eq_true rfl) rfl dX6_isSource_3 (fun H locs hM => ?_)
  refine g_if_ne (tgt := 11) G dX6_isSource_6 rfl (fun c1 => ?_) (fun c1 => ?_)
  · have hf := it_neg c1 hf
    refine g_iconst (v := 0) G dX6_isSource_11 rfl ?_
    refine g_istore (lv' := [(4, .int 0), (0, .ref o), (1, .int a1), (2, .int a2), (3, .int a3)]) G dX6_isSource_12 hl (Nat.le_of_ble_eq_true rfl) rfl (fun ls hl => ?_)
    obtain ⟨k57, hk57, hf⟩ := jn_open hf
    have K57 : ∀ (z2 : MS) (H : Heap) (locs : List Loc), k57 z2 = some (r, z') → MI D o ad H0 z2 H locs → ∀ ls : Array Slot, lv_has ls 5 [(0, .ref o), (2, .int a2), (3, .int a3)] → Z H locs 0 0 (F0 m 57 ls []) := by
      intro z2 H locs hf hM ls hl
      rw [hk57] at hf
      refine g_aload_n G dX6_isSource_57 rfl (lv_at hl 0 rfl) ?_
      refine g_iload_n G dX6_isSource_58 rfl (lv_at hl 2 rfl) ?_
      obtain ⟨z3, h2, hf⟩ := bnv_open hf
      refine m_callVv (As := [.int a3]) (rest := []) X hM hl mc_yearsGo (c_yearsGo h2) rfl (Nat.le_of_ble_eq_true rfl) (Nat.le_of_ble_eq_true rfl) rfl dX6_isSource_59 (fun H locs hM => ?_)
      refine g_iconst (v := 0) G dX6_isSource_62 rfl ?_
      refine g_istore (lv' := [(4, .int 0), (0, .ref o), (2, .int a2), (3, .int a3)]) G dX6_isSource_63 hl (Nat.le_of_ble_eq_true rfl) rfl (fun ls hl => ?_)
      obtain ⟨k94, hk94, hf⟩ := jn_open hf
      have K94 : ∀ (z4 : MS) (H : Heap) (locs : List Loc), k94 z4 = some (r, z') → MI D o ad H0 z4 H locs → ∀ ls : Array Slot, lv_has ls 5 [(0, .ref o)] → Z H locs 0 0 (F0 m 94 ls []) := by
        intro z4 H locs hf hM ls hl
        rw [hk94] at hf
        refine g_aload_n G dX6_isSource_94 rfl (lv_at hl 0 rfl) ?_
        obtain ⟨z5, h3, hf⟩ := bnv_open hf
        refine m_callVv (As := []) (rest := []) X hM hl mc_triesAnew (c_triesAnew h3) rfl (Nat.le_of_ble_eq_true rfl) (Nat.le_of_ble_eq_true rfl) rfl dX6_isSource_95 (fun H locs hM => ?_)
        refine g_iconst (v := 0) G dX6_isSource_98 rfl ?_
        refine g_istore (lv' := [(4, .int 0), (0, .ref o)]) G dX6_isSource_99 hl (Nat.le_of_ble_eq_true rfl) rfl (fun ls hl => ?_)
        have L101 : ∀ (n : Nat) (x1 : Int32) (z6 : MS) (H : Heap) (locs : List Loc), fx m_isSource_L101 (fun _ _ => none) n x1 z6 = some (r, z') → MI D o ad H0 z6 H locs → ∀ ls : Array Slot, lv_has ls 5 [(0, .ref o), (4, .int x1)] → Z H locs 0 0 (F0 m 101 ls []) := by
          intro n
          induction n with
          | zero => intro x1 z6 H locs hf; exact absurd hf (by intro q; cases q)
          | succ n ih101 =>
            intro x1 z6 H locs hf hM ls hl
            rw [fx_s] at hf
            generalize fx m_isSource_L101 (fun _ _ => none) n = s101 at hf ih101
            unfold m_isSource_L101 at hf
            refine g_iload G dX6_isSource_101 (lv_at hl 1 rfl) ?_
            refine g_aload_n G dX6_isSource_103 rfl (lv_at hl 0 rfl) ?_
            refine mg_i X hM mf_60 dX6_isSource_104 ?_
            refine g_icmp_ge (tgt := 146) G dX6_isSource_107 rfl (fun c2 => ?_) (fun c2 => ?_)
            · have hf := it_pos c2 hf
              refine g_iconst (v := 1) G dX6_isSource_146 rfl ?_
              exact m_zret X hM hf dX6_isSource_147
            · have hf := it_neg c2 hf
              refine g_aload_n G dX6_isSource_110 rfl (lv_at hl 0 rfl) ?_
              refine mg_a X hM mf_62 dX6_isSource_111 ?_
              refine g_aload_n G dX6_isSource_114 rfl (lv_at hl 0 rfl) ?_
              refine mg_a X hM mf_61 dX6_isSource_115 ?_
              refine g_iconst (v := 2) G dX6_isSource_118 rfl ?_
              refine g_iload G dX6_isSource_119 (lv_at hl 1 rfl) ?_
              refine g_imul G dX6_isSource_121 ?_
              obtain ⟨b1, hf⟩ := ck_open hf
              refine m_iald X hM (mIs.of mf_61) b1 dX6_isSource_122 ?_
              obtain ⟨b2, hf⟩ := ck_open hf
              refine m_iald X hM (mIs.of mf_62) b2 dX6_isSource_123 ?_
              refine g_aload_n G dX6_isSource_124 rfl (lv_at hl 0 rfl) ?_
              refine mg_a X hM mf_61 dX6_isSource_125 ?_
              refine g_iconst (v := 2) G dX6_isSource_128 rfl ?_
              refine g_iload G dX6_isSource_129 (lv_at hl 1 rfl) ?_
              refine g_imul G dX6_isSource_131 ?_
              refine g_iconst (v := 1) G dX6_isSource_132 rfl ?_
              refine g_iadd G dX6_isSource_133 ?_
              obtain ⟨b3, hf⟩ := ck_open hf
              refine m_iald X hM (mIs.of mf_61) b3 dX6_isSource_134 ?_
              refine g_icmp_eq (tgt := 140) G dX6_isSource_135 rfl (fun c3 => ?_) (fun c3 => ?_)
              · have hf := it_pos c3 hf
                refine g_iinc (v := x1 + 1) (lv' := [(4, .int (x1 + 1)), (0, .ref o)]) G dX6_isSource_140 hl (k := 1) rfl rfl (Nat.le_of_ble_eq_true rfl) rfl (fun ls hl => ?_)
                refine g_goto (tgt := 101) G dX6_isSource_143 rfl ?_
                exact ih101 _ _ _ _ hf hM ls (lv_sub hl [1, 0] rfl)
              · have hf := it_neg c3 hf
                refine g_iconst (v := 0) G dX6_isSource_138 rfl ?_
                exact m_zret X hM hf dX6_isSource_139
        exact L101 FU _ _ _ _ hf hM ls (lv_sub hl [1, 0] rfl)
      have L65 : ∀ (n : Nat) (x2 : Int32) (z7 : MS) (H : Heap) (locs : List Loc), fx (m_isSource_L65 a2 k94) (fun _ _ => none) n x2 z7 = some (r, z') → MI D o ad H0 z7 H locs → ∀ ls : Array Slot, lv_has ls 5 [(0, .ref o), (2, .int a2), (4, .int x2)] → Z H locs 0 0 (F0 m 65 ls []) := by
        intro n
        induction n with
        | zero => intro x2 z7 H locs hf; exact absurd hf (by intro q; cases q)
        | succ n ih65 =>
          intro x2 z7 H locs hf hM ls hl
          rw [fx_s] at hf
          generalize fx (m_isSource_L65 a2 k94) (fun _ _ => none) n = s65 at hf ih65
          unfold m_isSource_L65 at hf
          refine g_iload G dX6_isSource_65 (lv_at hl 2 rfl) ?_
          refine g_aload_n G dX6_isSource_67 rfl (lv_at hl 0 rfl) ?_
          obtain ⟨r2, z8, h4, hf⟩ := bnd_open hf
          refine m_callVi (As := []) (rest := [.int x2]) X hM hl mc_personMany (c_personMany h4) rfl (Nat.le_of_ble_eq_true rfl) (Nat.le_of_ble_eq_true rfl) rfl dX6_isSource_68 (fun H locs hM => ?_)
          refine g_icmp_ge (tgt := 94) G dX6_isSource_71 rfl (fun c4 => ?_) (fun c4 => ?_)
          · have hf := it_pos c4 hf
            exact K94 _ _ _ hf hM ls (lv_sub hl [0] rfl)
          · have hf := it_neg c4 hf
            refine g_aload_n G dX6_isSource_74 rfl (lv_at hl 0 rfl) ?_
            refine mg_a X hM mf_62 dX6_isSource_75 ?_
            refine g_iload G dX6_isSource_78 (lv_at hl 2 rfl) ?_
            refine g_aload_n G dX6_isSource_80 rfl (lv_at hl 0 rfl) ?_
            refine g_iload G dX6_isSource_81 (lv_at hl 2 rfl) ?_
            refine g_iload_n G dX6_isSource_83 rfl (lv_at hl 1 rfl) ?_
            obtain ⟨r3, z9, h5, hf⟩ := bnd_open hf
            refine m_callVi (As := [.int x2, .int a2]) (rest := [.int x2, .ref (ad 62)]) X hM hl mc_isOf (c_isOf h5) rfl (Nat.le_of_ble_eq_true rfl) (Nat.le_of_ble_eq_true rfl) rfl dX6_isSource_84 (fun H locs hM => ?_)
            obtain ⟨b4, hf⟩ := ck_open hf
            obtain ⟨z10, hz10, hf⟩ := nm_open hf
            refine m_iast X hM (mIs.of mf_62) b4 hz10 dX6_isSource_87 (fun H locs hM => ?_)
            refine g_iinc (v := x2 + 1) (lv' := [(4, .int (x2 + 1)), (0, .ref o), (2, .int a2)]) G dX6_isSource_88 hl (k := 2) rfl rfl (Nat.le_of_ble_eq_true rfl) rfl (fun ls hl => ?_)
            refine g_goto (tgt := 65) G dX6_isSource_91 rfl ?_
            exact ih65 _ _ _ _ hf hM ls (lv_sub hl [1, 2, 0] rfl)
      exact L65 FU _ _ _ _ hf hM ls (lv_sub hl [1, 2, 0] rfl)
    have L14 : ∀ (n : Nat) (x3 : Int32) (z11 : MS) (H : Heap) (locs : List Loc), fx (m_isSource_L14 a1 a2 k57) (fun _ _ => none) n x3 z11 = some (r, z') → MI D o ad H0 z11 H locs → ∀ ls : Array Slot, lv_has ls 5 [(0, .ref o), (1, .int a1), (2, .int a2), (3, .int a3), (4, .int x3)] → Z H locs 0 0 (F0 m 14 ls []) := by
      intro n
      induction n with
      | zero => intro x3 z11 H locs hf; exact absurd hf (by intro q; cases q)
      | succ n ih14 =>
        intro x3 z11 H locs hf hM ls hl
        rw [fx_s] at hf
        generalize fx (m_isSource_L14 a1 a2 k57) (fun _ _ => none) n = s14 at hf ih14
        unfold m_isSource_L14 at hf
        refine g_iload G dX6_isSource_14 (lv_at hl 4 rfl) ?_
        refine g_aload_n G dX6_isSource_16 rfl (lv_at hl 0 rfl) ?_
        obtain ⟨r4, z12, h6, hf⟩ := bnd_open hf
        refine m_callVi (As := []) (rest := [.int x3]) X hM hl mc_personMany (c_personMany h6) rfl (Nat.le_of_ble_eq_true rfl) (Nat.le_of_ble_eq_true rfl) rfl dX6_isSource_17 (fun H locs hM => ?_)
        refine g_icmp_ge (tgt := 57) G dX6_isSource_20 rfl (fun c5 => ?_) (fun c5 => ?_)
        · have hf := it_pos c5 hf
          exact K57 _ _ _ hf hM ls (lv_sub hl [0, 2, 3] rfl)
        · have hf := it_neg c5 hf
          refine g_aload_n G dX6_isSource_23 rfl (lv_at hl 0 rfl) ?_
          refine g_iload G dX6_isSource_24 (lv_at hl 4 rfl) ?_
          refine g_iload_n G dX6_isSource_26 rfl (lv_at hl 2 rfl) ?_
          obtain ⟨r5, z13, h7, hf⟩ := bnd_open hf
          refine m_callVi (As := [.int x3, .int a2]) (rest := []) X hM hl mc_isOf (c_isOf h7) rfl (Nat.le_of_ble_eq_true rfl) (Nat.le_of_ble_eq_true rfl) rfl dX6_isSource_27 (fun H locs hM => ?_)
          obtain ⟨j51, hj51, hf⟩ := jn_open hf
          have J51 : ∀ (z14 : MS) (H : Heap) (locs : List Loc), j51 z14 = some (r, z') → MI D o ad H0 z14 H locs → ∀ ls : Array Slot, lv_has ls 5 [(0, .ref o), (1, .int a1), (2, .int a2), (3, .int a3), (4, .int x3)] → Z H locs 0 0 (F0 m 51 ls []) := by
            intro z14 H locs hf hM ls hl
            rw [hj51] at hf
            refine g_iinc (v := x3 + 1) (lv' := [(4, .int (x3 + 1)), (0, .ref o), (1, .int a1), (2, .int a2), (3, .int a3)]) G dX6_isSource_51 hl (k := 4) rfl rfl (Nat.le_of_ble_eq_true rfl) rfl (fun ls hl => ?_)
            refine g_goto (tgt := 14) G dX6_isSource_54 rfl ?_
            exact ih14 _ _ _ _ hf hM ls (lv_sub hl [1, 2, 3, 4, 0] rfl)
          refine g_if_eq (tgt := 51) G dX6_isSource_30 rfl (fun c6 => ?_) (fun c6 => ?_)
          · have hf := it_pos c6 hf
            exact J51 _ _ _ hf hM ls (lv_sub hl [0, 1, 2, 3, 4] rfl)
          · have hf := it_neg c6 hf
            refine g_aload_n G dX6_isSource_33 rfl (lv_at hl 0 rfl) ?_
            refine g_iload G dX6_isSource_34 (lv_at hl 4 rfl) ?_
            refine g_iload_n G dX6_isSource_36 rfl (lv_at hl 2 rfl) ?_
            refine g_iload G dX6_isSource_37 (lv_at hl 4 rfl) ?_
            refine g_iload_n G dX6_isSource_39 rfl (lv_at hl 1 rfl) ?_
            obtain ⟨j48, hj48, hf⟩ := jn_open hf
            have J48 : ∀ (x4 : Int32) (z15 : MS) (H : Heap) (locs : List Loc), j48 x4 z15 = some (r, z') → MI D o ad H0 z15 H locs → ∀ ls : Array Slot, lv_has ls 5 [(0, .ref o), (1, .int a1), (2, .int a2), (3, .int a3), (4, .int x3)] → Z H locs 0 0 (F0 m 48 ls [.int x4, .int a2, .int x3, .ref o]) := by
              intro x4 z15 H locs hf hM ls hl
              rw [hj48] at hf
              obtain ⟨z16, h8, hf⟩ := bnv_open hf
              refine m_callVv (As := [.int x3, .int a2, .int x4]) (rest := []) X hM hl mc_makes (c_makes h8) rfl (Nat.le_of_ble_eq_true rfl) (Nat.le_of_ble_eq_true rfl) rfl dX6_isSource_48 (fun H locs hM => ?_)
              exact J51 _ _ _ hf hM ls (lv_sub hl [0, 1, 2, 3, 4] rfl)
            refine g_icmp_ne (tgt := 47) G dX6_isSource_40 rfl (fun c7 => ?_) (fun c7 => ?_)
            · have hf := it_neg c7 hf
              refine g_iconst (v := 1) G dX6_isSource_47 rfl ?_
              exact J48 _ _ _ _ hf hM ls (lv_sub hl [0, 1, 2, 3, 4] rfl)
            · have hf := it_pos c7 hf
              refine g_iconst (v := 2) G dX6_isSource_43 rfl ?_
              refine g_goto (tgt := 48) G dX6_isSource_44 rfl ?_
              exact J48 _ _ _ _ hf hM ls (lv_sub hl [0, 1, 2, 3, 4] rfl)
    exact L14 FU _ _ _ _ hf hM ls (lv_sub hl [1, 2, 3, 4, 0] rfl)
  · have hf := it_pos c1 hf
    refine g_iconst (v := 0) G dX6_isSource_9 rfl ?_
    exact m_zret X hM hf dX6_isSource_10
noncomputable def m_sources_L30 (a1 : Int32) (a2 : Int32) (k63 : Int32 → MS → Option (Int32 × MS)) (s30 : Int32 → Int32 → MS → Option (Int32 × MS)) (x2 : Int32) (x3 : Int32) (z6 : MS) : Option (Int32 × MS) :=
  bnd (m_personMany z6) fun r3 z7 =>
  if r3 ≤ x3 then
    k63 x2 z7
  else
    bnd (m_isSource x3 a1 a2 z7) fun r4 z8 =>
    jn (fun (x4 : Int32) (z9 : MS) =>
      s30 x4 (x3 + 1) z9) fun j57 =>
    if (bI r4) = 0 then
      j57 x2 z8
    else
      j57 (x2 ||| (1 <<< (x3 &&& 31))) z8
noncomputable def m_sources (a1 : Int32) (a2 : Int32) (z : MS) : Option (Int32 × MS) :=
  bnd (m_isFact a1 z) fun r1 z1 =>
  if (bI r1) = 0 then
    some ((-1), z1)
  else
    bnd (m_isAhead a2 0 20 z1) fun r2 z2 =>
    if (bI r2) = 0 then
      some ((-1), z2)
    else
      bnv (m_putsAside z2) fun z3 =>
      jn (fun (x1 : Int32) (z4 : MS) =>
        bnv (m_takesBack z4) fun z5 =>
        some (x1, z5)) fun k63 =>
      fx (m_sources_L30 a1 a2 k63) (fun _ _ _ => none) FU 0 0 z3
set_option maxHeartbeats 1000000 in
theorem c_sources {l : Launch} {D : MD} {o : Nat} {ad : Nat → Nat} {a1 : Int32} {a2 : Int32} {z z' : MS} {r : Int32} (hf : m_sources a1 a2 z = some (r, z')) : MMet l D o ad yX6_sources cX6_sources 5 (some .int) 10 [.ref o, .int a1, .int a2] z z' (some (.int r)) := by
  unfold m_sources at hf
  refine m_head pnX6 rfl (Nat.le_of_ble_eq_true rfl) (fun m Z H0 ls X hM hl => ?_)
  have G := X.g
  have hl : lv_has ls 5 [(0, .ref o), (1, .int a1), (2, .int a2)] := hl
  refine g_aload_n G dX6_sources_0 rfl (lv_at hl 0 rfl) ?_
  refine g_iload_n G dX6_sources_1 rfl (lv_at hl 1 rfl) ?_
  obtain ⟨r1, z1, h1, hf⟩ := bnd_open hf
  refine m_callVi (As := [.int a1]) (rest := []) X hM hl mc_isFact (c_isFact h1) rfl (Nat.le_of_ble_eq_true rfl) (Nat.le_of_ble_eq_true rfl) rfl dX6_sources_2 (fun H locs hM => ?_)
  refine g_if_eq (tgt := 19) G dX6_sources_5 rfl (fun c1 => ?_) (fun c1 => ?_)
  · have hf := it_pos c1 hf
    refine g_iconst (v := (-1)) G dX6_sources_19 rfl ?_
    exact m_iret X hM hf dX6_sources_20
  · have hf := it_neg c1 hf
    refine g_aload_n G dX6_sources_8 rfl (lv_at hl 0 rfl) ?_
    refine g_iload_n G dX6_sources_9 rfl (lv_at hl 2 rfl) ?_
    refine g_iconst (v := 0) G dX6_sources_10 rfl ?_
    refine g_bipush (v := 20) G dX6_sources_11 rfl ?_
    obtain ⟨r2, z2, h2, hf⟩ := bnd_open hf
    refine m_callVi (As := [.int a2, .int 0, .int 20]) (rest := []) X hM hl mc_isAhead (c_isAhead h2) rfl (Nat.le_of_ble_eq_true rfl) (Nat.le_of_ble_eq_true rfl) rfl dX6_sources_13 (fun H locs hM => ?_)
    refine g_if_ne (tgt := 21) G dX6_sources_16 rfl (fun c2 => ?_) (fun c2 => ?_)
    · have hf := it_neg c2 hf
      refine g_iconst (v := 0) G dX6_sources_21 rfl ?_
      refine g_istore_n (lv' := [(3, .int 0), (0, .ref o), (1, .int a1), (2, .int a2)]) G dX6_sources_22 rfl hl (Nat.le_of_ble_eq_true rfl) rfl (fun ls hl => ?_)
      refine g_aload_n G dX6_sources_23 rfl (lv_at hl 1 rfl) ?_
      obtain ⟨z3, h3, hf⟩ := bnv_open hf
      refine m_callVv (As := []) (rest := []) X hM hl mc_putsAside (c_putsAside h3) rfl (Nat.le_of_ble_eq_true rfl) (Nat.le_of_ble_eq_true rfl) rfl dX6_sources_24 (fun H locs hM => ?_)
      refine g_iconst (v := 0) G dX6_sources_27 rfl ?_
      refine g_istore (lv' := [(4, .int 0), (3, .int 0), (0, .ref o), (1, .int a1), (2, .int a2)]) G dX6_sources_28 hl (Nat.le_of_ble_eq_true rfl) rfl (fun ls hl => ?_)
      obtain ⟨k63, hk63, hf⟩ := jn_open hf
      have K63 : ∀ (x1 : Int32) (z4 : MS) (H : Heap) (locs : List Loc), k63 x1 z4 = some (r, z') → MI D o ad H0 z4 H locs → ∀ ls : Array Slot, lv_has ls 5 [(0, .ref o), (3, .int x1)] → Z H locs 0 0 (F0 m 63 ls []) := by
        intro x1 z4 H locs hf hM ls hl
        rw [hk63] at hf
        refine g_aload_n G dX6_sources_63 rfl (lv_at hl 0 rfl) ?_
        obtain ⟨z5, h4, hf⟩ := bnv_open hf
        refine m_callVv (As := []) (rest := []) X hM hl mc_takesBack (c_takesBack h4) rfl (Nat.le_of_ble_eq_true rfl) (Nat.le_of_ble_eq_true rfl) rfl dX6_sources_64 (fun H locs hM => ?_)
        refine g_iload_n G dX6_sources_67 rfl (lv_at hl 1 rfl) ?_
        exact m_iret X hM hf dX6_sources_68
      have L30 : ∀ (n : Nat) (x2 : Int32) (x3 : Int32) (z6 : MS) (H : Heap) (locs : List Loc), fx (m_sources_L30 a1 a2 k63) (fun _ _ _ => none) n x2 x3 z6 = some (r, z') → MI D o ad H0 z6 H locs → ∀ ls : Array Slot, lv_has ls 5 [(0, .ref o), (1, .int a1), (2, .int a2), (3, .int x2), (4, .int x3)] → Z H locs 0 0 (F0 m 30 ls []) := by
        intro n
        induction n with
        | zero => intro x2 x3 z6 H locs hf; exact absurd hf (by intro q; cases q)
        | succ n ih30 =>
          intro x2 x3 z6 H locs hf hM ls hl
          rw [fx_s] at hf
          generalize fx (m_sources_L30 a1 a2 k63) (fun _ _ _ => none) n = s30 at hf ih30
          unfold m_sources_L30 at hf
          refine g_iload G dX6_sources_30 (lv_at hl 4 rfl) ?_
          refine g_aload_n G dX6_sources_32 rfl (lv_at hl 0 rfl) ?_
          obtain ⟨r3, z7, h5, hf⟩ := bnd_open hf
          refine m_callVi (As := []) (rest := [.int x3]) X hM hl mc_personMany (c_personMany h5) rfl (Nat.le_of_ble_eq_true rfl) (Nat.le_of_ble_eq_true rfl) rfl dX6_sources_33 (fun H locs hM => ?_)
          refine g_icmp_ge (tgt := 63) G dX6_sources_36 rfl (fun c3 => ?_) (fun c3 => ?_)
          · have hf := it_pos c3 hf
            exact K63 _ _ _ _ hf hM ls (lv_sub hl [0, 3] rfl)
          · have hf := it_neg c3 hf
            refine g_aload_n G dX6_sources_39 rfl (lv_at hl 0 rfl) ?_
            refine g_iload G dX6_sources_40 (lv_at hl 4 rfl) ?_
            refine g_iload_n G dX6_sources_42 rfl (lv_at hl 1 rfl) ?_
            refine g_iload_n G dX6_sources_43 rfl (lv_at hl 2 rfl) ?_
            obtain ⟨r4, z8, h6, hf⟩ := bnd_open hf
            refine m_callVi (As := [.int x3, .int a1, .int a2]) (rest := []) X hM hl mc_isSource (c_isSource h6) rfl (Nat.le_of_ble_eq_true rfl) (Nat.le_of_ble_eq_true rfl) rfl dX6_sources_44 (fun H locs hM => ?_)
            obtain ⟨j57, hj57, hf⟩ := jn_open hf
            have J57 : ∀ (x4 : Int32) (z9 : MS) (H : Heap) (locs : List Loc), j57 x4 z9 = some (r, z') → MI D o ad H0 z9 H locs → ∀ ls : Array Slot, lv_has ls 5 [(0, .ref o), (1, .int a1), (2, .int a2), (3, .int x4), (4, .int x3)] → Z H locs 0 0 (F0 m 57 ls []) := by
              intro x4 z9 H locs hf hM ls hl
              rw [hj57] at hf
              refine g_iinc (v := x3 + 1) (lv' := [(4, .int (x3 + 1)), (0, .ref o), (1, .int a1), (2, .int a2), (3, .int x4)]) G dX6_sources_57 hl (k := 4) rfl rfl (Nat.le_of_ble_eq_true rfl) rfl (fun ls hl => ?_)
              refine g_goto (tgt := 30) G dX6_sources_60 rfl ?_
              exact ih30 _ _ _ _ _ hf hM ls (lv_sub hl [1, 2, 3, 4, 0] rfl)
            refine g_if_eq (tgt := 57) G dX6_sources_47 rfl (fun c4 => ?_) (fun c4 => ?_)
            · have hf := it_pos c4 hf
              exact J57 _ _ _ _ hf hM ls (lv_sub hl [0, 1, 2, 3, 4] rfl)
            · have hf := it_neg c4 hf
              refine g_iload_n G dX6_sources_50 rfl (lv_at hl 3 rfl) ?_
              refine g_iconst (v := 1) G dX6_sources_51 rfl ?_
              refine g_iload G dX6_sources_52 (lv_at hl 4 rfl) ?_
              refine g_ishl G dX6_sources_54 ?_
              refine g_ior G dX6_sources_55 ?_
              refine g_istore_n (lv' := [(3, .int (x2 ||| (1 <<< (x3 &&& 31)))), (0, .ref o), (1, .int a1), (2, .int a2), (4, .int x3)]) G dX6_sources_56 rfl hl (Nat.le_of_ble_eq_true rfl) rfl (fun ls hl => ?_)
              exact J57 _ _ _ _ hf hM ls (lv_sub hl [1, 2, 3, 0, 4] rfl)
      exact L30 FU _ _ _ _ _ hf hM ls (lv_sub hl [2, 3, 4, 1, 0] rfl)
    · have hf := it_pos c2 hf
      refine g_iconst (v := (-1)) G dX6_sources_19 rfl ?_
      exact m_iret X hM hf dX6_sources_20
