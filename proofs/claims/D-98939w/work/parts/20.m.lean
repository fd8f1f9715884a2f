/-! PART 20: the Model's methods as plain functions, and their contracts (printed by decomp.py) -/
set_option maxRecDepth 100000

theorem mc_isIn : mcS yX6_isIn cX6_isIn 6 (some .boolean) 3 297 := ⟨lw_S q2012 q2013 q157 q2014, ⟨by decide +kernel, by decide +kernel, by decide +kernel⟩, Nat.le_of_ble_eq_true rfl⟩
noncomputable def m_isIn (a1 : Int64) (a2 : Int64) (a3 : Int64) (z : MS) : Option (Bool × MS) :=
  jn (fun (z1 : MS) =>
    some (false, z1)) fun j17 =>
  if a1 < a2 then
    j17 z
  else
    if a3 < a1 then
      j17 z
    else
      some (true, z)
set_option maxHeartbeats 1000000 in
theorem c_isIn {l : Launch} {D : MD} {o : Nat} {ad : Nat → Nat} {a1 : Int64} {a2 : Int64} {a3 : Int64} {z z' : MS} {r : Bool} (hf : m_isIn a1 a2 a3 z = some (r, z')) : MMet l D o ad yX6_isIn cX6_isIn 6 (some .boolean) 1 [.long a1, .long a2, .long a3] z z' (some (.int (bI r))) := by
  unfold m_isIn at hf
  refine m_head pnX6 rfl (Nat.le_of_ble_eq_true rfl) (fun m Z H0 ls X hM hl => ?_)
  have G := X.g
  have hl : lv_has ls 6 [(0, .long a1), (2, .long a2), (4, .long a3)] := hl
  refine g_lload_n G dX6_isIn_0 rfl (lv_at hl 0 rfl) ?_
  refine g_lload_n G dX6_isIn_1 rfl (lv_at hl 1 rfl) ?_
  obtain ⟨j17, hj17, hf⟩ := jn_open hf
  have J17 : ∀ (z1 : MS) (H : Heap) (locs : List Loc), j17 z1 = some (r, z') → MI D o ad H0 z1 H locs → ∀ ls : Array Slot, lv_has ls 6 [] → Z H locs 0 0 (F0 m 17 ls []) := by
    intro z1 H locs hf hM ls hl
    rw [hj17] at hf
    refine g_iconst (v := 0) G dX6_isIn_17 rfl ?_
    exact m_zret X hM hf dX6_isIn_18
  refine g_lc_lt (tgt := 17) G dX6_isIn_2 dX6_isIn_3 rfl (fun c1 => ?_) (fun c1 => ?_)
  · have hf := it_pos c1 hf
    exact J17 _ _ _ hf hM ls (lv_sub hl [] rfl)
  · have hf := it_neg c1 hf
    refine g_lload_n G dX6_isIn_6 rfl (lv_at hl 0 rfl) ?_
    refine g_lload G dX6_isIn_7 (lv_at hl 2 rfl) ?_
    refine g_lc_gt (tgt := 17) G dX6_isIn_9 dX6_isIn_10 rfl (fun c2 => ?_) (fun c2 => ?_)
    · have hf := it_pos c2 hf
      exact J17 _ _ _ hf hM ls (lv_sub hl [] rfl)
    · have hf := it_neg c2 hf
      refine g_iconst (v := 1) G dX6_isIn_13 rfl ?_
      refine g_goto (tgt := 18) G dX6_isIn_14 rfl ?_
      exact m_zret X hM hf dX6_isIn_18
noncomputable def m_feed_L28 (a1 : Int32) (a2 : Int32) (a3 : Int32) (a4 : Int32) (a5 : Int32) (k124 : MS → Option (Int32 × MS)) (s28 : Int32 → MS → Option (Int32 × MS)) (x1 : Int32) (z2 : MS) : Option (Int32 × MS) :=
  if 20 ≤ x1 then
    k124 z2
  else
    jn (fun (x2 : Int32) (z3 : MS) =>
      ck (inb (mI z3 1) (mN 0)) <|
      nm (wA z3 0 (Int32.toNatClampNeg (mI z3 1)) ((x2 >>> ((8 * (3 - (x1 - x1 / 4 * 4))) &&& 31)) &&& 255)) fun z4 =>
      nm (wI z4 1 ((mI z4 1) + 1)) fun z5 =>
      s28 (x1 + 1) z5) fun j81 =>
    if 4 ≤ x1 then
      if 8 ≤ x1 then
        if 12 ≤ x1 then
          if 16 ≤ x1 then
            j81 a5 z2
          else
            j81 a4 z2
        else
          j81 a3 z2
      else
        j81 a2 z2
    else
      j81 a1 z2
noncomputable def m_feed (a1 : Int32) (a2 : Int32) (a3 : Int32) (a4 : Int32) (a5 : Int32) (z : MS) : Option (Int32 × MS) :=
  if ((mI z 1) + 20) ≤ 1600 then
    jn (fun (z1 : MS) =>
      some ((mI z1 1), z1)) fun k124 =>
    fx (m_feed_L28 a1 a2 a3 a4 a5 k124) (fun _ _ => none) FU 0 z
  else
    nm (wA z 9 (Int32.toNatClampNeg 0) ((mA z 9 (Int32.toNatClampNeg 0)) + 1)) fun z6 =>
    some ((-1), z6)
set_option maxHeartbeats 1000000 in
theorem c_feed {l : Launch} {D : MD} {o : Nat} {ad : Nat → Nat} {a1 : Int32} {a2 : Int32} {a3 : Int32} {a4 : Int32} {a5 : Int32} {z z' : MS} {r : Int32} (hf : m_feed a1 a2 a3 a4 a5 z = some (r, z')) : MMet l D o ad yX6_feed cX6_feed 8 (some .int) 1 [.ref o, .int a1, .int a2, .int a3, .int a4, .int a5] z z' (some (.int r)) := by
  unfold m_feed at hf
  refine m_head pnX6 rfl (Nat.le_of_ble_eq_true rfl) (fun m Z H0 ls X hM hl => ?_)
  have G := X.g
  have hl : lv_has ls 8 [(0, .ref o), (1, .int a1), (2, .int a2), (3, .int a3), (4, .int a4), (5, .int a5)] := hl
  refine g_aload_n G dX6_feed_0 rfl (lv_at hl 0 rfl) ?_
  refine mg_i X hM mf_1 dX6_feed_1 ?_
  refine g_bipush (v := 20) G dX6_feed_4 rfl ?_
  refine g_iadd G dX6_feed_6 ?_
  refine g_sipush (v := 1600) G dX6_feed_7 rfl ?_
  refine g_icmp_le (tgt := 25) G dX6_feed_10 rfl (fun c1 => ?_) (fun c1 => ?_)
  · have hf := it_pos c1 hf
    refine g_iconst (v := 0) G dX6_feed_25 rfl ?_
    refine g_istore (lv' := [(6, .int 0), (0, .ref o), (1, .int a1), (2, .int a2), (3, .int a3), (4, .int a4), (5, .int a5)]) G dX6_feed_26 hl (Nat.le_of_ble_eq_true rfl) rfl (fun ls hl => ?_)
    obtain ⟨k124, hk124, hf⟩ := jn_open hf
    have K124 : ∀ (z1 : MS) (H : Heap) (locs : List Loc), k124 z1 = some (r, z') → MI D o ad H0 z1 H locs → ∀ ls : Array Slot, lv_has ls 8 [(0, .ref o)] → Z H locs 0 0 (F0 m 124 ls []) := by
      intro z1 H locs hf hM ls hl
      rw [hk124] at hf
      refine g_aload_n G dX6_feed_124 rfl (lv_at hl 0 rfl) ?_
      refine mg_i X hM mf_1 dX6_feed_125 ?_
      exact m_iret X hM hf dX6_feed_128
    have L28 : ∀ (n : Nat) (x1 : Int32) (z2 : MS) (H : Heap) (locs : List Loc), fx (m_feed_L28 a1 a2 a3 a4 a5 k124) (fun _ _ => none) n x1 z2 = some (r, z') → MI D o ad H0 z2 H locs → ∀ ls : Array Slot, lv_has ls 8 [(0, .ref o), (1, .int a1), (2, .int a2), (3, .int a3), (4, .int a4), (5, .int a5), (6, .int x1)] → Z H locs 0 0 (F0 m 28 ls []) := by
      intro n
      induction n with
      | zero => intro x1 z2 H locs hf; exact absurd hf (by intro q; cases q)
      | succ n ih28 =>
        intro x1 z2 H locs hf hM ls hl
        rw [fx_s] at hf
        generalize fx (m_feed_L28 a1 a2 a3 a4 a5 k124) (fun _ _ => none) n = s28 at hf ih28
        unfold m_feed_L28 at hf
        refine g_iload G dX6_feed_28 (lv_at hl 6 rfl) ?_
        refine g_bipush (v := 20) G dX6_feed_30 rfl ?_
        refine g_icmp_ge (tgt := 124) G dX6_feed_32 rfl (fun c2 => ?_) (fun c2 => ?_)
        · have hf := it_pos c2 hf
          exact K124 _ _ _ hf hM ls (lv_sub hl [0] rfl)
        · have hf := it_neg c2 hf
          refine g_iload G dX6_feed_35 (lv_at hl 6 rfl) ?_
          refine g_iconst (v := 4) G dX6_feed_37 rfl ?_
          obtain ⟨j81, hj81, hf⟩ := jn_open hf
          have J81 : ∀ (x2 : Int32) (z3 : MS) (H : Heap) (locs : List Loc), j81 x2 z3 = some (r, z') → MI D o ad H0 z3 H locs → ∀ ls : Array Slot, lv_has ls 8 [(0, .ref o), (1, .int a1), (2, .int a2), (3, .int a3), (4, .int a4), (5, .int a5), (6, .int x1)] → Z H locs 0 0 (F0 m 81 ls [.int x2]) := by
            intro x2 z3 H locs hf hM ls hl
            rw [hj81] at hf
            refine g_istore (lv' := [(7, .int x2), (0, .ref o), (1, .int a1), (2, .int a2), (3, .int a3), (4, .int a4), (5, .int a5), (6, .int x1)]) G dX6_feed_81 hl (Nat.le_of_ble_eq_true rfl) rfl (fun ls hl => ?_)
            refine g_aload_n G dX6_feed_83 rfl (lv_at hl 1 rfl) ?_
            refine mg_a X hM mf_0 dX6_feed_84 ?_
            refine g_aload_n G dX6_feed_87 rfl (lv_at hl 1 rfl) ?_
            refine mg_i X hM mf_1 dX6_feed_88 ?_
            refine g_iload G dX6_feed_91 (lv_at hl 0 rfl) ?_
            refine g_bipush (v := 8) G dX6_feed_93 rfl ?_
            refine g_iconst (v := 3) G dX6_feed_95 rfl ?_
            refine g_iload G dX6_feed_96 (lv_at hl 7 rfl) ?_
            refine g_iconst (v := 4) G dX6_feed_98 rfl ?_
            refine g_irem G dX6_feed_99 (by decide) ?_
            refine g_isub G dX6_feed_100 ?_
            refine g_imul G dX6_feed_101 ?_
            refine g_ishr G dX6_feed_102 ?_
            refine g_sipush (v := 255) G dX6_feed_103 rfl ?_
            refine g_iand G dX6_feed_106 ?_
            obtain ⟨b1, hf⟩ := ck_open hf
            obtain ⟨z4, hz4, hf⟩ := nm_open hf
            refine m_iast X hM (mIs.of mf_0) b1 hz4 dX6_feed_107 (fun H locs hM => ?_)
            refine g_aload_n G dX6_feed_108 rfl (lv_at hl 1 rfl) ?_
            refine g_dup G dX6_feed_109 rfl ?_
            refine mg_i X hM mf_1 dX6_feed_110 ?_
            refine g_iconst (v := 1) G dX6_feed_113 rfl ?_
            refine g_iadd G dX6_feed_114 ?_
            obtain ⟨z5, hz5, hf⟩ := nm_open hf
            refine mp_i X hM mf_1 hz5 dX6_feed_115 (fun H locs hM => ?_)
            refine g_iinc (v := x1 + 1) (lv' := [(6, .int (x1 + 1)), (7, .int x2), (0, .ref o), (1, .int a1), (2, .int a2), (3, .int a3), (4, .int a4), (5, .int a5)]) G dX6_feed_118 hl (k := 7) rfl rfl (Nat.le_of_ble_eq_true rfl) rfl (fun ls hl => ?_)
            refine g_goto (tgt := 28) G dX6_feed_121 rfl ?_
            exact ih28 _ _ _ _ hf hM ls (lv_sub hl [2, 3, 4, 5, 6, 7, 0] rfl)
          refine g_icmp_ge (tgt := 45) G dX6_feed_38 rfl (fun c3 => ?_) (fun c3 => ?_)
          · have hf := it_pos c3 hf
            refine g_iload G dX6_feed_45 (lv_at hl 6 rfl) ?_
            refine g_bipush (v := 8) G dX6_feed_47 rfl ?_
            refine g_icmp_ge (tgt := 56) G dX6_feed_49 rfl (fun c4 => ?_) (fun c4 => ?_)
            · have hf := it_pos c4 hf
              refine g_iload G dX6_feed_56 (lv_at hl 6 rfl) ?_
              refine g_bipush (v := 12) G dX6_feed_58 rfl ?_
              refine g_icmp_ge (tgt := 67) G dX6_feed_60 rfl (fun c5 => ?_) (fun c5 => ?_)
              · have hf := it_pos c5 hf
                refine g_iload G dX6_feed_67 (lv_at hl 6 rfl) ?_
                refine g_bipush (v := 16) G dX6_feed_69 rfl ?_
                refine g_icmp_ge (tgt := 79) G dX6_feed_71 rfl (fun c6 => ?_) (fun c6 => ?_)
                · have hf := it_pos c6 hf
                  refine g_iload G dX6_feed_79 (lv_at hl 5 rfl) ?_
                  exact J81 _ _ _ _ hf hM ls (lv_sub hl [0, 1, 2, 3, 4, 5, 6] rfl)
                · have hf := it_neg c6 hf
                  refine g_iload G dX6_feed_74 (lv_at hl 4 rfl) ?_
                  refine g_goto (tgt := 81) G dX6_feed_76 rfl ?_
                  exact J81 _ _ _ _ hf hM ls (lv_sub hl [0, 1, 2, 3, 4, 5, 6] rfl)
              · have hf := it_neg c5 hf
                refine g_iload_n G dX6_feed_63 rfl (lv_at hl 3 rfl) ?_
                refine g_goto (tgt := 81) G dX6_feed_64 rfl ?_
                exact J81 _ _ _ _ hf hM ls (lv_sub hl [0, 1, 2, 3, 4, 5, 6] rfl)
            · have hf := it_neg c4 hf
              refine g_iload_n G dX6_feed_52 rfl (lv_at hl 2 rfl) ?_
              refine g_goto (tgt := 81) G dX6_feed_53 rfl ?_
              exact J81 _ _ _ _ hf hM ls (lv_sub hl [0, 1, 2, 3, 4, 5, 6] rfl)
          · have hf := it_neg c3 hf
            refine g_iload_n G dX6_feed_41 rfl (lv_at hl 1 rfl) ?_
            refine g_goto (tgt := 81) G dX6_feed_42 rfl ?_
            exact J81 _ _ _ _ hf hM ls (lv_sub hl [0, 1, 2, 3, 4, 5, 6] rfl)
    exact L28 FU _ _ _ _ hf hM ls (lv_sub hl [1, 2, 3, 4, 5, 6, 0] rfl)
  · have hf := it_neg c1 hf
    refine g_aload_n G dX6_feed_13 rfl (lv_at hl 0 rfl) ?_
    refine mg_a X hM mf_9 dX6_feed_14 ?_
    refine g_iconst (v := 0) G dX6_feed_17 rfl ?_
    refine g_dup2_11 G dX6_feed_18 rfl rfl ?_
    refine m_iald X hM (mIs.of mf_9) (by decide) dX6_feed_19 ?_
    refine g_iconst (v := 1) G dX6_feed_20 rfl ?_
    refine g_iadd G dX6_feed_21 ?_
    obtain ⟨z6, hz6, hf⟩ := nm_open hf
    refine m_iast X hM (mIs.of mf_9) (by decide) hz6 dX6_feed_22 (fun H locs hM => ?_)
    refine g_iconst (v := (-1)) G dX6_feed_23 rfl ?_
    exact m_iret X hM hf dX6_feed_24
noncomputable def m_end (a1 : Int32) (z : MS) : Option (Bool × MS) :=
  jn (fun (z1 : MS) =>
    nm (wA z1 9 (Int32.toNatClampNeg 0) ((mA z1 9 (Int32.toNatClampNeg 0)) + 1)) fun z2 =>
    some (false, z2)) fun j12 =>
  if a1 < 0 then
    j12 z
  else
    if a1 ≤ (mI z 1) then
      nm (wI z 1 a1) fun z3 =>
      some (true, z3)
    else
      j12 z
set_option maxHeartbeats 1000000 in
theorem c_end {l : Launch} {D : MD} {o : Nat} {ad : Nat → Nat} {a1 : Int32} {z z' : MS} {r : Bool} (hf : m_end a1 z = some (r, z')) : MMet l D o ad yX6_end cX6_end 2 (some .boolean) 1 [.ref o, .int a1] z z' (some (.int (bI r))) := by
  unfold m_end at hf
  refine m_head pnX6 rfl (Nat.le_of_ble_eq_true rfl) (fun m Z H0 ls X hM hl => ?_)
  have G := X.g
  have hl : lv_has ls 2 [(0, .ref o), (1, .int a1)] := hl
  refine g_iload_n G dX6_end_0 rfl (lv_at hl 1 rfl) ?_
  obtain ⟨j12, hj12, hf⟩ := jn_open hf
  have J12 : ∀ (z1 : MS) (H : Heap) (locs : List Loc), j12 z1 = some (r, z') → MI D o ad H0 z1 H locs → ∀ ls : Array Slot, lv_has ls 2 [(0, .ref o)] → Z H locs 0 0 (F0 m 12 ls []) := by
    intro z1 H locs hf hM ls hl
    rw [hj12] at hf
    refine g_aload_n G dX6_end_12 rfl (lv_at hl 0 rfl) ?_
    refine mg_a X hM mf_9 dX6_end_13 ?_
    refine g_iconst (v := 0) G dX6_end_16 rfl ?_
    refine g_dup2_11 G dX6_end_17 rfl rfl ?_
    refine m_iald X hM (mIs.of mf_9) (by decide) dX6_end_18 ?_
    refine g_iconst (v := 1) G dX6_end_19 rfl ?_
    refine g_iadd G dX6_end_20 ?_
    obtain ⟨z2, hz2, hf⟩ := nm_open hf
    refine m_iast X hM (mIs.of mf_9) (by decide) hz2 dX6_end_21 (fun H locs hM => ?_)
    refine g_iconst (v := 0) G dX6_end_22 rfl ?_
    exact m_zret X hM hf dX6_end_23
  refine g_if_lt (tgt := 12) G dX6_end_1 rfl (fun c1 => ?_) (fun c1 => ?_)
  · have hf := it_pos c1 hf
    exact J12 _ _ _ hf hM ls (lv_sub hl [0] rfl)
  · have hf := it_neg c1 hf
    refine g_iload_n G dX6_end_4 rfl (lv_at hl 1 rfl) ?_
    refine g_aload_n G dX6_end_5 rfl (lv_at hl 0 rfl) ?_
    refine mg_i X hM mf_1 dX6_end_6 ?_
    refine g_icmp_le (tgt := 24) G dX6_end_9 rfl (fun c2 => ?_) (fun c2 => ?_)
    · have hf := it_pos c2 hf
      refine g_aload_n G dX6_end_24 rfl (lv_at hl 0 rfl) ?_
      refine g_iload_n G dX6_end_25 rfl (lv_at hl 1 rfl) ?_
      obtain ⟨z3, hz3, hf⟩ := nm_open hf
      refine mp_i X hM mf_1 hz3 dX6_end_26 (fun H locs hM => ?_)
      refine g_iconst (v := 1) G dX6_end_29 rfl ?_
      exact m_zret X hM hf dX6_end_30
    · have hf := it_neg c2 hf
      exact J12 _ _ _ hf hM ls (lv_sub hl [0] rfl)
theorem mc_fail : mcV yX6_fail cX6_fail 3 (none) 2 287 := ⟨lw_V q1960 q1962 qs57 q157 q1963, ⟨rfl, by decide +kernel, by decide +kernel, by decide +kernel⟩, Nat.le_of_ble_eq_true rfl⟩
noncomputable def m_fail (a1 : Int32) (a2 : Int32) (z : MS) : Option (MS) :=
  if (mI z 5) = 0 then
    nm (wI z 5 a1) fun z1 =>
    nm (wI z1 6 a2) fun z2 =>
    some z2
  else
    some z
set_option maxHeartbeats 1000000 in
theorem c_fail {l : Launch} {D : MD} {o : Nat} {ad : Nat → Nat} {a1 : Int32} {a2 : Int32} {z z' : MS} (hf : m_fail a1 a2 z = some z') : MMet l D o ad yX6_fail cX6_fail 3 (none) 1 [.ref o, .int a1, .int a2] z z' (none) := by
  unfold m_fail at hf
  refine m_head pnX6 rfl (Nat.le_of_ble_eq_true rfl) (fun m Z H0 ls X hM hl => ?_)
  have G := X.g
  have hl : lv_has ls 3 [(0, .ref o), (1, .int a1), (2, .int a2)] := hl
  refine g_aload_n G dX6_fail_0 rfl (lv_at hl 0 rfl) ?_
  refine mg_i X hM mf_5 dX6_fail_1 ?_
  refine g_if_eq (tgt := 8) G dX6_fail_4 rfl (fun c1 => ?_) (fun c1 => ?_)
  · have hf := it_pos c1 hf
    refine g_aload_n G dX6_fail_8 rfl (lv_at hl 0 rfl) ?_
    refine g_iload_n G dX6_fail_9 rfl (lv_at hl 1 rfl) ?_
    obtain ⟨z1, hz1, hf⟩ := nm_open hf
    refine mp_i X hM mf_5 hz1 dX6_fail_10 (fun H locs hM => ?_)
    refine g_aload_n G dX6_fail_13 rfl (lv_at hl 0 rfl) ?_
    refine g_iload_n G dX6_fail_14 rfl (lv_at hl 2 rfl) ?_
    obtain ⟨z2, hz2, hf⟩ := nm_open hf
    refine mp_i X hM mf_6 hz2 dX6_fail_15 (fun H locs hM => ?_)
    exact m_vret X hM hf dX6_fail_18
  · have hf := it_neg c1 hf
    exact m_vret X hM hf dX6_fail_7
theorem mc_isLetter : mcS yX6_isLetter cX6_isLetter 1 (some .boolean) 1 273 := ⟨lw_S q1972 q1973 q157 q1974, ⟨by decide +kernel, by decide +kernel, by decide +kernel⟩, Nat.le_of_ble_eq_true rfl⟩
noncomputable def m_isLetter (a1 : Int32) (z : MS) : Option (Bool × MS) :=
  jn (fun (z1 : MS) =>
    some (false, z1)) fun j16 =>
  if a1 < 97 then
    j16 z
  else
    if 122 < a1 then
      j16 z
    else
      some (true, z)
set_option maxHeartbeats 1000000 in
theorem c_isLetter {l : Launch} {D : MD} {o : Nat} {ad : Nat → Nat} {a1 : Int32} {z z' : MS} {r : Bool} (hf : m_isLetter a1 z = some (r, z')) : MMet l D o ad yX6_isLetter cX6_isLetter 1 (some .boolean) 1 [.int a1] z z' (some (.int (bI r))) := by
  unfold m_isLetter at hf
  refine m_head pnX6 rfl (Nat.le_of_ble_eq_true rfl) (fun m Z H0 ls X hM hl => ?_)
  have G := X.g
  have hl : lv_has ls 1 [(0, .int a1)] := hl
  refine g_iload_n G dX6_isLetter_0 rfl (lv_at hl 0 rfl) ?_
  refine g_bipush (v := 97) G dX6_isLetter_1 rfl ?_
  obtain ⟨j16, hj16, hf⟩ := jn_open hf
  have J16 : ∀ (z1 : MS) (H : Heap) (locs : List Loc), j16 z1 = some (r, z') → MI D o ad H0 z1 H locs → ∀ ls : Array Slot, lv_has ls 1 [] → Z H locs 0 0 (F0 m 16 ls []) := by
    intro z1 H locs hf hM ls hl
    rw [hj16] at hf
    refine g_iconst (v := 0) G dX6_isLetter_16 rfl ?_
    exact m_zret X hM hf dX6_isLetter_17
  refine g_icmp_lt (tgt := 16) G dX6_isLetter_3 rfl (fun c1 => ?_) (fun c1 => ?_)
  · have hf := it_pos c1 hf
    exact J16 _ _ _ hf hM ls (lv_sub hl [] rfl)
  · have hf := it_neg c1 hf
    refine g_iload_n G dX6_isLetter_6 rfl (lv_at hl 0 rfl) ?_
    refine g_bipush (v := 122) G dX6_isLetter_7 rfl ?_
    refine g_icmp_gt (tgt := 16) G dX6_isLetter_9 rfl (fun c2 => ?_) (fun c2 => ?_)
    · have hf := it_pos c2 hf
      exact J16 _ _ _ hf hM ls (lv_sub hl [] rfl)
    · have hf := it_neg c2 hf
      refine g_iconst (v := 1) G dX6_isLetter_12 rfl ?_
      refine g_goto (tgt := 17) G dX6_isLetter_13 rfl ?_
      exact m_zret X hM hf dX6_isLetter_17
theorem mc_isDigit : mcS yX6_isDigit cX6_isDigit 1 (some .boolean) 1 294 := ⟨lw_S q2009 q2010 q157 q2011, ⟨by decide +kernel, by decide +kernel, by decide +kernel⟩, Nat.le_of_ble_eq_true rfl⟩
noncomputable def m_isDigit (a1 : Int32) (z : MS) : Option (Bool × MS) :=
  jn (fun (z1 : MS) =>
    some (false, z1)) fun j16 =>
  if a1 < 48 then
    j16 z
  else
    if 57 < a1 then
      j16 z
    else
      some (true, z)
set_option maxHeartbeats 1000000 in
theorem c_isDigit {l : Launch} {D : MD} {o : Nat} {ad : Nat → Nat} {a1 : Int32} {z z' : MS} {r : Bool} (hf : m_isDigit a1 z = some (r, z')) : MMet l D o ad yX6_isDigit cX6_isDigit 1 (some .boolean) 1 [.int a1] z z' (some (.int (bI r))) := by
  unfold m_isDigit at hf
  refine m_head pnX6 rfl (Nat.le_of_ble_eq_true rfl) (fun m Z H0 ls X hM hl => ?_)
  have G := X.g
  have hl : lv_has ls 1 [(0, .int a1)] := hl
  refine g_iload_n G dX6_isDigit_0 rfl (lv_at hl 0 rfl) ?_
  refine g_bipush (v := 48) G dX6_isDigit_1 rfl ?_
  obtain ⟨j16, hj16, hf⟩ := jn_open hf
  have J16 : ∀ (z1 : MS) (H : Heap) (locs : List Loc), j16 z1 = some (r, z') → MI D o ad H0 z1 H locs → ∀ ls : Array Slot, lv_has ls 1 [] → Z H locs 0 0 (F0 m 16 ls []) := by
    intro z1 H locs hf hM ls hl
    rw [hj16] at hf
    refine g_iconst (v := 0) G dX6_isDigit_16 rfl ?_
    exact m_zret X hM hf dX6_isDigit_17
  refine g_icmp_lt (tgt := 16) G dX6_isDigit_3 rfl (fun c1 => ?_) (fun c1 => ?_)
  · have hf := it_pos c1 hf
    exact J16 _ _ _ hf hM ls (lv_sub hl [] rfl)
  · have hf := it_neg c1 hf
    refine g_iload_n G dX6_isDigit_6 rfl (lv_at hl 0 rfl) ?_
    refine g_bipush (v := 57) G dX6_isDigit_7 rfl ?_
    refine g_icmp_gt (tgt := 16) G dX6_isDigit_9 rfl (fun c2 => ?_) (fun c2 => ?_)
    · have hf := it_pos c2 hf
      exact J16 _ _ _ hf hM ls (lv_sub hl [] rfl)
    · have hf := it_neg c2 hf
      refine g_iconst (v := 1) G dX6_isDigit_12 rfl ?_
      refine g_goto (tgt := 17) G dX6_isDigit_13 rfl ?_
      exact m_zret X hM hf dX6_isDigit_17
theorem mc_look : mcV yX6_look cX6_look 1 (some .int) 0 269 := ⟨lw_V q1952 q1954 qs55 q157 q1955, ⟨rfl, by decide +kernel, by decide +kernel, by decide +kernel⟩, Nat.le_of_ble_eq_true rfl⟩
noncomputable def m_look_L0 (k52 : MS → Option (Int32 × MS)) (s0 : MS → Option (Int32 × MS)) (z2 : MS) : Option (Int32 × MS) :=
  if (mI z2 3) ≤ (mI z2 2) then
    k52 z2
  else
    ck (inb (mI z2 2) (mN 0)) <|
    jn (fun (z3 : MS) =>
      nm (wI z3 2 ((mI z3 2) + 1)) fun z4 =>
      s0 z4) fun j39 =>
    if (mA z2 0 (Int32.toNatClampNeg (mI z2 2))) = 10 then
      j39 z2
    else
      ck (inb (mI z2 2) (mN 0)) <|
      if (mA z2 0 (Int32.toNatClampNeg (mI z2 2))) = 32 then
        j39 z2
      else
        k52 z2
noncomputable def m_look (z : MS) : Option (Int32 × MS) :=
  jn (fun (z1 : MS) =>
    if (mI z1 3) ≤ (mI z1 2) then
      some ((-1), z1)
    else
      ck (inb (mI z1 2) (mN 0)) <|
      some ((mA z1 0 (Int32.toNatClampNeg (mI z1 2))), z1)) fun k52 =>
  fx (m_look_L0 k52) (fun _ => none) FU  z
set_option maxHeartbeats 1000000 in
theorem c_look {l : Launch} {D : MD} {o : Nat} {ad : Nat → Nat} {z z' : MS} {r : Int32} (hf : m_look z = some (r, z')) : MMet l D o ad yX6_look cX6_look 1 (some .int) 1 [.ref o] z z' (some (.int r)) := by
  unfold m_look at hf
  refine m_head pnX6 rfl (Nat.le_of_ble_eq_true rfl) (fun m Z H0 ls X hM hl => ?_)
  have G := X.g
  have hl : lv_has ls 1 [(0, .ref o)] := hl
  obtain ⟨k52, hk52, hf⟩ := jn_open hf
  have K52 : ∀ (z1 : MS) (H : Heap) (locs : List Loc), k52 z1 = some (r, z') → MI D o ad H0 z1 H locs → ∀ ls : Array Slot, lv_has ls 1 [(0, .ref o)] → Z H locs 0 0 (F0 m 52 ls []) := by
    intro z1 H locs hf hM ls hl
    rw [hk52] at hf
    refine g_aload_n G dX6_look_52 rfl (lv_at hl 0 rfl) ?_
    refine mg_i X hM mf_2 dX6_look_53 ?_
    refine g_aload_n G dX6_look_56 rfl (lv_at hl 0 rfl) ?_
    refine mg_i X hM mf_3 dX6_look_57 ?_
    refine g_icmp_ge (tgt := 75) G dX6_look_60 rfl (fun c1 => ?_) (fun c1 => ?_)
    · have hf := it_pos c1 hf
      refine g_iconst (v := (-1)) G dX6_look_75 rfl ?_
      exact m_iret X hM hf dX6_look_76
    · have hf := it_neg c1 hf
      refine g_aload_n G dX6_look_63 rfl (lv_at hl 0 rfl) ?_
      refine mg_a X hM mf_0 dX6_look_64 ?_
      refine g_aload_n G dX6_look_67 rfl (lv_at hl 0 rfl) ?_
      refine mg_i X hM mf_2 dX6_look_68 ?_
      obtain ⟨b1, hf⟩ := ck_open hf
      refine m_iald X hM (mIs.of mf_0) b1 dX6_look_71 ?_
      refine g_goto (tgt := 76) G dX6_look_72 rfl ?_
      exact m_iret X hM hf dX6_look_76
  have L0 : ∀ (n : Nat) (z2 : MS) (H : Heap) (locs : List Loc), fx (m_look_L0 k52) (fun _ => none) n z2 = some (r, z') → MI D o ad H0 z2 H locs → ∀ ls : Array Slot, lv_has ls 1 [(0, .ref o)] → Z H locs 0 0 (F0 m 0 ls []) := by
    intro n
    induction n with
    | zero => intro z2 H locs hf; exact absurd hf (by intro q; cases q)
    | succ n ih0 =>
      intro z2 H locs hf hM ls hl
      rw [fx_s] at hf
      generalize fx (m_look_L0 k52) (fun _ => none) n = s0 at hf ih0
      unfold m_look_L0 at hf
      refine g_aload_n G dX6_look_0 rfl (lv_at hl 0 rfl) ?_
      refine mg_i X hM mf_2 dX6_look_1 ?_
      refine g_aload_n G dX6_look_4 rfl (lv_at hl 0 rfl) ?_
      refine mg_i X hM mf_3 dX6_look_5 ?_
      refine g_icmp_ge (tgt := 52) G dX6_look_8 rfl (fun c2 => ?_) (fun c2 => ?_)
      · have hf := it_pos c2 hf
        exact K52 _ _ _ hf hM ls (lv_sub hl [0] rfl)
      · have hf := it_neg c2 hf
        refine g_aload_n G dX6_look_11 rfl (lv_at hl 0 rfl) ?_
        refine mg_a X hM mf_0 dX6_look_12 ?_
        refine g_aload_n G dX6_look_15 rfl (lv_at hl 0 rfl) ?_
        refine mg_i X hM mf_2 dX6_look_16 ?_
        obtain ⟨b2, hf⟩ := ck_open hf
        refine m_iald X hM (mIs.of mf_0) b2 dX6_look_19 ?_
        refine g_bipush (v := 10) G dX6_look_20 rfl ?_
        obtain ⟨j39, hj39, hf⟩ := jn_open hf
        have J39 : ∀ (z3 : MS) (H : Heap) (locs : List Loc), j39 z3 = some (r, z') → MI D o ad H0 z3 H locs → ∀ ls : Array Slot, lv_has ls 1 [(0, .ref o)] → Z H locs 0 0 (F0 m 39 ls []) := by
          intro z3 H locs hf hM ls hl
          rw [hj39] at hf
          refine g_aload_n G dX6_look_39 rfl (lv_at hl 0 rfl) ?_
          refine g_dup G dX6_look_40 rfl ?_
          refine mg_i X hM mf_2 dX6_look_41 ?_
          refine g_iconst (v := 1) G dX6_look_44 rfl ?_
          refine g_iadd G dX6_look_45 ?_
          obtain ⟨z4, hz4, hf⟩ := nm_open hf
          refine mp_i X hM mf_2 hz4 dX6_look_46 (fun H locs hM => ?_)
          refine g_goto (tgt := 0) G dX6_look_49 rfl ?_
          exact ih0 _ _ _ hf hM ls (lv_sub hl [0] rfl)
        refine g_icmp_eq (tgt := 39) G dX6_look_22 rfl (fun c3 => ?_) (fun c3 => ?_)
        · have hf := it_pos c3 hf
          exact J39 _ _ _ hf hM ls (lv_sub hl [0] rfl)
        · have hf := it_neg c3 hf
          refine g_aload_n G dX6_look_25 rfl (lv_at hl 0 rfl) ?_
          refine mg_a X hM mf_0 dX6_look_26 ?_
          refine g_aload_n G dX6_look_29 rfl (lv_at hl 0 rfl) ?_
          refine mg_i X hM mf_2 dX6_look_30 ?_
          obtain ⟨b3, hf⟩ := ck_open hf
          refine m_iald X hM (mIs.of mf_0) b3 dX6_look_33 ?_
          refine g_bipush (v := 32) G dX6_look_34 rfl ?_
          refine g_icmp_ne (tgt := 52) G dX6_look_36 rfl (fun c4 => ?_) (fun c4 => ?_)
          · have hf := it_neg c4 hf
            exact K52 _ _ _ hf hM ls (lv_sub hl [0] rfl)
          · have hf := it_pos c4 hf
            exact J39 _ _ _ hf hM ls (lv_sub hl [0] rfl)
  exact L0 FU _ _ _ hf hM ls (lv_sub hl [0] rfl)
theorem mc_isHere : mcV yX6_isHere cX6_isHere 4 (some .boolean) 1 280 := ⟨lw_V q1968 q1970 qs59 q157 q1971, ⟨rfl, by decide +kernel, by decide +kernel, by decide +kernel⟩, Nat.le_of_ble_eq_true rfl⟩
noncomputable def m_isHere_L76 (a1 : Nat) (s76 : Int32 → MS → Option (Bool × MS)) (x2 : Int32) (z4 : MS) : Option (Bool × MS) :=
  if (nI (mN a1)) ≤ x2 then
    some (true, z4)
  else
    ck (inb ((mI z4 2) + x2) (mN 0)) <|
    ck (inb x2 (mN a1)) <|
    if (mA z4 0 (Int32.toNatClampNeg ((mI z4 2) + x2))) = ((mW a1).getD (Int32.toNatClampNeg x2) 0) then
      s76 (x2 + 1) z4
    else
      some (false, z4)
noncomputable def m_isHere_L35 (k61 : Int32 → MS → Option (Bool × MS)) (s35 : Int32 → MS → Option (Bool × MS)) (x3 : Int32) (z5 : MS) : Option (Bool × MS) :=
  if (mI z5 3) ≤ x3 then
    k61 x3 z5
  else
    ck (inb x3 (mN 0)) <|
    bnd (m_isLetter (mA z5 0 (Int32.toNatClampNeg x3)) z5) fun r3 z6 =>
    if (bI r3) = 0 then
      k61 x3 z6
    else
      s35 (x3 + 1) z6
noncomputable def m_isHere (a1 : Nat) (z : MS) : Option (Bool × MS) :=
  if (mI z 5) = 0 then
    bnd (m_look z) fun r1 z1 =>
    bnd (m_isLetter r1 z1) fun r2 z2 =>
    if (bI r2) = 0 then
      some (false, z2)
    else
      if (mI z2 2) = (mI z2 4) then
        some (false, z2)
      else
        jn (fun (x1 : Int32) (z3 : MS) =>
          if (x1 - (mI z3 2)) = (nI (mN a1)) then
            fx (m_isHere_L76 a1) (fun _ _ => none) FU 0 z3
          else
            some (false, z3)) fun k61 =>
        fx (m_isHere_L35 k61) (fun _ _ => none) FU (mI z2 2) z2
  else
    some (false, z)
set_option maxHeartbeats 1000000 in
theorem c_isHere {l : Launch} {D : MD} {o : Nat} {ad : Nat → Nat} {a1 : Nat} {z z' : MS} {r : Bool} (ha1 : mIs a1 .char) (hf : m_isHere a1 z = some (r, z')) : MMet l D o ad yX6_isHere cX6_isHere 4 (some .boolean) 2 [.ref o, .ref (ad a1)] z z' (some (.int (bI r))) := by
  unfold m_isHere at hf
  refine m_head pnX6 rfl (Nat.le_of_ble_eq_true rfl) (fun m Z H0 ls X hM hl => ?_)
  have G := X.g
  have hl : lv_has ls 4 [(0, .ref o), (1, .ref (ad a1))] := hl
  refine g_aload_n G dX6_isHere_0 rfl (lv_at hl 0 rfl) ?_
  refine mg_i X hM mf_5 dX6_isHere_1 ?_
  refine g_if_ne (tgt := 28) G dX6_isHere_4 rfl (fun c1 => ?_) (fun c1 => ?_)
  · have hf := it_neg c1 hf
    refine g_iconst (v := 0) G dX6_isHere_28 rfl ?_
    exact m_zret X hM hf dX6_isHere_29
  · have hf := it_pos c1 hf
    refine g_aload_n G dX6_isHere_7 rfl (lv_at hl 0 rfl) ?_
    obtain ⟨r1, z1, h1, hf⟩ := bnd_open hf
    refine m_callVi (As := []) (rest := []) X hM hl mc_look (c_look h1) rfl (Nat.le_of_ble_eq_true rfl) (Nat.le_of_ble_eq_true rfl) rfl dX6_isHere_8 (fun H locs hM => ?_)
    obtain ⟨r2, z2, h2, hf⟩ := bnd_open hf
    refine m_callSi (As := [.int r1]) (rest := []) X hM hl mc_isLetter (c_isLetter h2) rfl (Nat.le_of_ble_eq_true rfl) (Nat.le_of_ble_eq_true rfl) rfl dX6_isHere_11 (fun H locs hM => ?_)
    refine g_if_eq (tgt := 28) G dX6_isHere_14 rfl (fun c2 => ?_) (fun c2 => ?_)
    · have hf := it_pos c2 hf
      refine g_iconst (v := 0) G dX6_isHere_28 rfl ?_
      exact m_zret X hM hf dX6_isHere_29
    · have hf := it_neg c2 hf
      refine g_aload_n G dX6_isHere_17 rfl (lv_at hl 0 rfl) ?_
      refine mg_i X hM mf_2 dX6_isHere_18 ?_
      refine g_aload_n G dX6_isHere_21 rfl (lv_at hl 0 rfl) ?_
      refine mg_i X hM mf_4 dX6_isHere_22 ?_
      refine g_icmp_ne (tgt := 30) G dX6_isHere_25 rfl (fun c3 => ?_) (fun c3 => ?_)
      · have hf := it_neg c3 hf
        refine g_aload_n G dX6_isHere_30 rfl (lv_at hl 0 rfl) ?_
        refine mg_i X hM mf_2 dX6_isHere_31 ?_
        refine g_istore_n (lv' := [(2, .int (mI z2 2)), (0, .ref o), (1, .ref (ad a1))]) G dX6_isHere_34 rfl hl (Nat.le_of_ble_eq_true rfl) rfl (fun ls hl => ?_)
        obtain ⟨k61, hk61, hf⟩ := jn_open hf
        have K61 : ∀ (x1 : Int32) (z3 : MS) (H : Heap) (locs : List Loc), k61 x1 z3 = some (r, z') → MI D o ad H0 z3 H locs → ∀ ls : Array Slot, lv_has ls 4 [(0, .ref o), (1, .ref (ad a1)), (2, .int x1)] → Z H locs 0 0 (F0 m 61 ls []) := by
          intro x1 z3 H locs hf hM ls hl
          rw [hk61] at hf
          refine g_iload_n G dX6_isHere_61 rfl (lv_at hl 2 rfl) ?_
          refine g_aload_n G dX6_isHere_62 rfl (lv_at hl 0 rfl) ?_
          refine mg_i X hM mf_2 dX6_isHere_63 ?_
          refine g_isub G dX6_isHere_66 ?_
          refine g_aload_n G dX6_isHere_67 rfl (lv_at hl 1 rfl) ?_
          refine m_alenC X hM ha1 dX6_isHere_68 ?_
          refine g_icmp_eq (tgt := 74) G dX6_isHere_69 rfl (fun c4 => ?_) (fun c4 => ?_)
          · have hf := it_pos c4 hf
            refine g_iconst (v := 0) G dX6_isHere_74 rfl ?_
            refine g_istore_n (lv' := [(3, .int 0), (0, .ref o), (1, .ref (ad a1)), (2, .int x1)]) G dX6_isHere_75 rfl hl (Nat.le_of_ble_eq_true rfl) rfl (fun ls hl => ?_)
            have L76 : ∀ (n : Nat) (x2 : Int32) (z4 : MS) (H : Heap) (locs : List Loc), fx (m_isHere_L76 a1) (fun _ _ => none) n x2 z4 = some (r, z') → MI D o ad H0 z4 H locs → ∀ ls : Array Slot, lv_has ls 4 [(0, .ref o), (1, .ref (ad a1)), (3, .int x2)] → Z H locs 0 0 (F0 m 76 ls []) := by
              intro n
              induction n with
              | zero => intro x2 z4 H locs hf; exact absurd hf (by intro q; cases q)
              | succ n ih76 =>
                intro x2 z4 H locs hf hM ls hl
                rw [fx_s] at hf
                generalize fx (m_isHere_L76 a1) (fun _ _ => none) n = s76 at hf ih76
                unfold m_isHere_L76 at hf
                refine g_iload_n G dX6_isHere_76 rfl (lv_at hl 2 rfl) ?_
                refine g_aload_n G dX6_isHere_77 rfl (lv_at hl 1 rfl) ?_
                refine m_alenC X hM ha1 dX6_isHere_78 ?_
                refine g_icmp_ge (tgt := 107) G dX6_isHere_79 rfl (fun c5 => ?_) (fun c5 => ?_)
                · have hf := it_pos c5 hf
                  refine g_iconst (v := 1) G dX6_isHere_107 rfl ?_
                  exact m_zret X hM hf dX6_isHere_108
                · have hf := it_neg c5 hf
                  refine g_aload_n G dX6_isHere_82 rfl (lv_at hl 0 rfl) ?_
                  refine mg_a X hM mf_0 dX6_isHere_83 ?_
                  refine g_aload_n G dX6_isHere_86 rfl (lv_at hl 0 rfl) ?_
                  refine mg_i X hM mf_2 dX6_isHere_87 ?_
                  refine g_iload_n G dX6_isHere_90 rfl (lv_at hl 2 rfl) ?_
                  refine g_iadd G dX6_isHere_91 ?_
                  obtain ⟨b1, hf⟩ := ck_open hf
                  refine m_iald X hM (mIs.of mf_0) b1 dX6_isHere_92 ?_
                  refine g_aload_n G dX6_isHere_93 rfl (lv_at hl 1 rfl) ?_
                  refine g_iload_n G dX6_isHere_94 rfl (lv_at hl 2 rfl) ?_
                  obtain ⟨b2, hf⟩ := ck_open hf
                  refine m_cald X hM ha1 b2 dX6_isHere_95 ?_
                  refine g_icmp_eq (tgt := 101) G dX6_isHere_96 rfl (fun c6 => ?_) (fun c6 => ?_)
                  · have hf := it_pos c6 hf
                    refine g_iinc (v := x2 + 1) (lv' := [(3, .int (x2 + 1)), (0, .ref o), (1, .ref (ad a1))]) G dX6_isHere_101 hl (k := 2) rfl rfl (Nat.le_of_ble_eq_true rfl) rfl (fun ls hl => ?_)
                    refine g_goto (tgt := 76) G dX6_isHere_104 rfl ?_
                    exact ih76 _ _ _ _ hf hM ls (lv_sub hl [1, 2, 0] rfl)
                  · have hf := it_neg c6 hf
                    refine g_iconst (v := 0) G dX6_isHere_99 rfl ?_
                    exact m_zret X hM hf dX6_isHere_100
            exact L76 FU _ _ _ _ hf hM ls (lv_sub hl [1, 2, 0] rfl)
          · have hf := it_neg c4 hf
            refine g_iconst (v := 0) G dX6_isHere_72 rfl ?_
            exact m_zret X hM hf dX6_isHere_73
        have L35 : ∀ (n : Nat) (x3 : Int32) (z5 : MS) (H : Heap) (locs : List Loc), fx (m_isHere_L35 k61) (fun _ _ => none) n x3 z5 = some (r, z') → MI D o ad H0 z5 H locs → ∀ ls : Array Slot, lv_has ls 4 [(0, .ref o), (1, .ref (ad a1)), (2, .int x3)] → Z H locs 0 0 (F0 m 35 ls []) := by
          intro n
          induction n with
          | zero => intro x3 z5 H locs hf; exact absurd hf (by intro q; cases q)
          | succ n ih35 =>
            intro x3 z5 H locs hf hM ls hl
            rw [fx_s] at hf
            generalize fx (m_isHere_L35 k61) (fun _ _ => none) n = s35 at hf ih35
            unfold m_isHere_L35 at hf
            refine g_iload_n G dX6_isHere_35 rfl (lv_at hl 2 rfl) ?_
            refine g_aload_n G dX6_isHere_36 rfl (lv_at hl 0 rfl) ?_
            refine mg_i X hM mf_3 dX6_isHere_37 ?_
            refine g_icmp_ge (tgt := 61) G dX6_isHere_40 rfl (fun c7 => ?_) (fun c7 => ?_)
            · have hf := it_pos c7 hf
              exact K61 _ _ _ _ hf hM ls (lv_sub hl [0, 1, 2] rfl)
            · have hf := it_neg c7 hf
              refine g_aload_n G dX6_isHere_43 rfl (lv_at hl 0 rfl) ?_
              refine mg_a X hM mf_0 dX6_isHere_44 ?_
              refine g_iload_n G dX6_isHere_47 rfl (lv_at hl 2 rfl) ?_
              obtain ⟨b3, hf⟩ := ck_open hf
              refine m_iald X hM (mIs.of mf_0) b3 dX6_isHere_48 ?_
              obtain ⟨r3, z6, h3, hf⟩ := bnd_open hf
              refine m_callSi (As := [.int (mA z5 0 (Int32.toNatClampNeg x3))]) (rest := []) X hM hl mc_isLetter (c_isLetter h3) rfl (Nat.le_of_ble_eq_true rfl) (Nat.le_of_ble_eq_true rfl) rfl dX6_isHere_49 (fun H locs hM => ?_)
              refine g_if_eq (tgt := 61) G dX6_isHere_52 rfl (fun c8 => ?_) (fun c8 => ?_)
              · have hf := it_pos c8 hf
                exact K61 _ _ _ _ hf hM ls (lv_sub hl [0, 1, 2] rfl)
              · have hf := it_neg c8 hf
                refine g_iinc (v := x3 + 1) (lv' := [(2, .int (x3 + 1)), (0, .ref o), (1, .ref (ad a1))]) G dX6_isHere_55 hl (k := 2) rfl rfl (Nat.le_of_ble_eq_true rfl) rfl (fun ls hl => ?_)
                refine g_goto (tgt := 35) G dX6_isHere_58 rfl ?_
                exact ih35 _ _ _ _ hf hM ls (lv_sub hl [1, 2, 0] rfl)
        exact L35 FU _ _ _ _ hf hM ls (lv_sub hl [1, 2, 0] rfl)
      · have hf := it_pos c3 hf
        refine g_iconst (v := 0) G dX6_isHere_28 rfl ?_
        exact m_zret X hM hf dX6_isHere_29
theorem mc_takes : mcV yX6_takes cX6_takes 2 (some .boolean) 1 284 := ⟨lw_V q1964 q1966 qs58 q157 q1967, ⟨rfl, by decide +kernel, by decide +kernel, by decide +kernel⟩, Nat.le_of_ble_eq_true rfl⟩
noncomputable def m_takes (a1 : Nat) (z : MS) : Option (Bool × MS) :=
  bnd (m_isHere a1 z) fun r1 z1 =>
  if (bI r1) = 0 then
    some (false, z1)
  else
    nm (wI z1 2 ((mI z1 2) + (nI (mN a1)))) fun z2 =>
    nm (wI z2 4 (mI z2 2)) fun z3 =>
    some (true, z3)
set_option maxHeartbeats 1000000 in
theorem c_takes {l : Launch} {D : MD} {o : Nat} {ad : Nat → Nat} {a1 : Nat} {z z' : MS} {r : Bool} (ha1 : mIs a1 .char) (hf : m_takes a1 z = some (r, z')) : MMet l D o ad yX6_takes cX6_takes 2 (some .boolean) 3 [.ref o, .ref (ad a1)] z z' (some (.int (bI r))) := by
  unfold m_takes at hf
  refine m_head pnX6 rfl (Nat.le_of_ble_eq_true rfl) (fun m Z H0 ls X hM hl => ?_)
  have G := X.g
  have hl : lv_has ls 2 [(0, .ref o), (1, .ref (ad a1))] := hl
  refine g_aload_n G dX6_takes_0 rfl (lv_at hl 0 rfl) ?_
  refine g_aload_n G dX6_takes_1 rfl (lv_at hl 1 rfl) ?_
  obtain ⟨r1, z1, h1, hf⟩ := bnd_open hf
  refine m_callVi (As := [.ref (ad a1)]) (rest := []) X hM hl mc_isHere (c_isHere ha1 h1) rfl (Nat.le_of_ble_eq_true rfl) (Nat.le_of_ble_eq_true rfl) rfl dX6_takes_2 (fun H locs hM => ?_)
  refine g_if_ne (tgt := 10) G dX6_takes_5 rfl (fun c1 => ?_) (fun c1 => ?_)
  · have hf := it_neg c1 hf
    refine g_aload_n G dX6_takes_10 rfl (lv_at hl 0 rfl) ?_
    refine g_dup G dX6_takes_11 rfl ?_
    refine mg_i X hM mf_2 dX6_takes_12 ?_
    refine g_aload_n G dX6_takes_15 rfl (lv_at hl 1 rfl) ?_
    refine m_alenC X hM ha1 dX6_takes_16 ?_
    refine g_iadd G dX6_takes_17 ?_
    obtain ⟨z2, hz2, hf⟩ := nm_open hf
    refine mp_i X hM mf_2 hz2 dX6_takes_18 (fun H locs hM => ?_)
    refine g_aload_n G dX6_takes_21 rfl (lv_at hl 0 rfl) ?_
    refine g_aload_n G dX6_takes_22 rfl (lv_at hl 0 rfl) ?_
    refine mg_i X hM mf_2 dX6_takes_23 ?_
    obtain ⟨z3, hz3, hf⟩ := nm_open hf
    refine mp_i X hM mf_4 hz3 dX6_takes_26 (fun H locs hM => ?_)
    refine g_iconst (v := 1) G dX6_takes_29 rfl ?_
    exact m_zret X hM hf dX6_takes_30
  · have hf := it_pos c1 hf
    refine g_iconst (v := 0) G dX6_takes_8 rfl ?_
    exact m_zret X hM hf dX6_takes_9
theorem mc_asks : mcV yX6_asks cX6_asks 2 (none) 1 330 := ⟨lw_V q2001 q2003 qs66 q157 q2004, ⟨rfl, by decide +kernel, by decide +kernel, by decide +kernel⟩, Nat.le_of_ble_eq_true rfl⟩
noncomputable def m_asks (a1 : Nat) (z : MS) : Option (MS) :=
  if (mI z 5) = 0 then
    bnd (m_takes a1 z) fun r1 z1 =>
    if (bI r1) = 0 then
      bnv (m_fail 1 (mI z1 2) z1) fun z2 =>
      some z2
    else
      some z1
  else
    some z
set_option maxHeartbeats 1000000 in
theorem c_asks {l : Launch} {D : MD} {o : Nat} {ad : Nat → Nat} {a1 : Nat} {z z' : MS} (ha1 : mIs a1 .char) (hf : m_asks a1 z = some z') : MMet l D o ad yX6_asks cX6_asks 2 (none) 4 [.ref o, .ref (ad a1)] z z' (none) := by
  unfold m_asks at hf
  refine m_head pnX6 rfl (Nat.le_of_ble_eq_true rfl) (fun m Z H0 ls X hM hl => ?_)
  have G := X.g
  have hl : lv_has ls 2 [(0, .ref o), (1, .ref (ad a1))] := hl
  refine g_aload_n G dX6_asks_0 rfl (lv_at hl 0 rfl) ?_
  refine mg_i X hM mf_5 dX6_asks_1 ?_
  refine g_if_ne (tgt := 24) G dX6_asks_4 rfl (fun c1 => ?_) (fun c1 => ?_)
  · have hf := it_neg c1 hf
    exact m_vret X hM hf dX6_asks_24
  · have hf := it_pos c1 hf
    refine g_aload_n G dX6_asks_7 rfl (lv_at hl 0 rfl) ?_
    refine g_aload_n G dX6_asks_8 rfl (lv_at hl 1 rfl) ?_
    obtain ⟨r1, z1, h1, hf⟩ := bnd_open hf
    refine m_callVi (As := [.ref (ad a1)]) (rest := []) X hM hl mc_takes (c_takes ha1 h1) rfl (Nat.le_of_ble_eq_true rfl) (Nat.le_of_ble_eq_true rfl) rfl dX6_asks_9 (fun H locs hM => ?_)
    refine g_if_ne (tgt := 24) G dX6_asks_12 rfl (fun c2 => ?_) (fun c2 => ?_)
    · have hf := it_neg c2 hf
      exact m_vret X hM hf dX6_asks_24
    · have hf := it_pos c2 hf
      refine g_aload_n G dX6_asks_15 rfl (lv_at hl 0 rfl) ?_
      refine g_iconst (v := 1) G dX6_asks_16 rfl ?_
      refine g_aload_n G dX6_asks_17 rfl (lv_at hl 0 rfl) ?_
      refine mg_i X hM mf_2 dX6_asks_18 ?_
      obtain ⟨z2, h2, hf⟩ := bnv_open hf
      refine m_callVv (As := [.int 1, .int (mI z1 2)]) (rest := []) X hM hl mc_fail (c_fail h2) rfl (Nat.le_of_ble_eq_true rfl) (Nat.le_of_ble_eq_true rfl) rfl dX6_asks_21 (fun H locs hM => ?_)
      exact m_vret X hM hf dX6_asks_24
theorem mc_takesSign : mcV yX6_takesSign cX6_takesSign 2 (some .boolean) 1 291 := ⟨lw_V q2075 q2077 qs83 q157 q2078, ⟨rfl, by decide +kernel, by decide +kernel, by decide +kernel⟩, Nat.le_of_ble_eq_true rfl⟩
noncomputable def m_takesSign (a1 : Int32) (z : MS) : Option (Bool × MS) :=
  if (mI z 5) = 0 then
    bnd (m_look z) fun r1 z1 =>
    if r1 = a1 then
      nm (wI z1 2 ((mI z1 2) + 1)) fun z2 =>
      some (true, z2)
    else
      some (false, z1)
  else
    some (false, z)
set_option maxHeartbeats 1000000 in
theorem c_takesSign {l : Launch} {D : MD} {o : Nat} {ad : Nat → Nat} {a1 : Int32} {z z' : MS} {r : Bool} (hf : m_takesSign a1 z = some (r, z')) : MMet l D o ad yX6_takesSign cX6_takesSign 2 (some .boolean) 2 [.ref o, .int a1] z z' (some (.int (bI r))) := by
  unfold m_takesSign at hf
  refine m_head pnX6 rfl (Nat.le_of_ble_eq_true rfl) (fun m Z H0 ls X hM hl => ?_)
  have G := X.g
  have hl : lv_has ls 2 [(0, .ref o), (1, .int a1)] := hl
  refine g_aload_n G dX6_takesSign_0 rfl (lv_at hl 0 rfl) ?_
  refine mg_i X hM mf_5 dX6_takesSign_1 ?_
  refine g_if_ne (tgt := 15) G dX6_takesSign_4 rfl (fun c1 => ?_) (fun c1 => ?_)
  · have hf := it_neg c1 hf
    refine g_iconst (v := 0) G dX6_takesSign_15 rfl ?_
    exact m_zret X hM hf dX6_takesSign_16
  · have hf := it_pos c1 hf
    refine g_aload_n G dX6_takesSign_7 rfl (lv_at hl 0 rfl) ?_
    obtain ⟨r1, z1, h1, hf⟩ := bnd_open hf
    refine m_callVi (As := []) (rest := []) X hM hl mc_look (c_look h1) rfl (Nat.le_of_ble_eq_true rfl) (Nat.le_of_ble_eq_true rfl) rfl dX6_takesSign_8 (fun H locs hM => ?_)
    refine g_iload_n G dX6_takesSign_11 rfl (lv_at hl 1 rfl) ?_
    refine g_icmp_eq (tgt := 17) G dX6_takesSign_12 rfl (fun c2 => ?_) (fun c2 => ?_)
    · have hf := it_pos c2 hf
      refine g_aload_n G dX6_takesSign_17 rfl (lv_at hl 0 rfl) ?_
      refine g_dup G dX6_takesSign_18 rfl ?_
      refine mg_i X hM mf_2 dX6_takesSign_19 ?_
      refine g_iconst (v := 1) G dX6_takesSign_22 rfl ?_
      refine g_iadd G dX6_takesSign_23 ?_
      obtain ⟨z2, hz2, hf⟩ := nm_open hf
      refine mp_i X hM mf_2 hz2 dX6_takesSign_24 (fun H locs hM => ?_)
      refine g_iconst (v := 1) G dX6_takesSign_27 rfl ?_
      exact m_zret X hM hf dX6_takesSign_28
    · have hf := it_neg c2 hf
      refine g_iconst (v := 0) G dX6_takesSign_15 rfl ?_
      exact m_zret X hM hf dX6_takesSign_16
theorem mc_asksSign : mcV yX6_asksSign cX6_asksSign 2 (none) 1 380 := ⟨lw_V q2071 q2073 qs82 q157 q2074, ⟨rfl, by decide +kernel, by decide +kernel, by decide +kernel⟩, Nat.le_of_ble_eq_true rfl⟩
noncomputable def m_asksSign (a1 : Int32) (z : MS) : Option (MS) :=
  if (mI z 5) = 0 then
    bnd (m_takesSign a1 z) fun r1 z1 =>
    if (bI r1) = 0 then
      bnv (m_fail 1 (mI z1 2) z1) fun z2 =>
      some z2
    else
      some z1
  else
    some z
set_option maxHeartbeats 1000000 in
theorem c_asksSign {l : Launch} {D : MD} {o : Nat} {ad : Nat → Nat} {a1 : Int32} {z z' : MS} (hf : m_asksSign a1 z = some z') : MMet l D o ad yX6_asksSign cX6_asksSign 2 (none) 3 [.ref o, .int a1] z z' (none) := by
  unfold m_asksSign at hf
  refine m_head pnX6 rfl (Nat.le_of_ble_eq_true rfl) (fun m Z H0 ls X hM hl => ?_)
  have G := X.g
  have hl : lv_has ls 2 [(0, .ref o), (1, .int a1)] := hl
  refine g_aload_n G dX6_asksSign_0 rfl (lv_at hl 0 rfl) ?_
  refine mg_i X hM mf_5 dX6_asksSign_1 ?_
  refine g_if_ne (tgt := 24) G dX6_asksSign_4 rfl (fun c1 => ?_) (fun c1 => ?_)
  · have hf := it_neg c1 hf
    exact m_vret X hM hf dX6_asksSign_24
  · have hf := it_pos c1 hf
    refine g_aload_n G dX6_asksSign_7 rfl (lv_at hl 0 rfl) ?_
    refine g_iload_n G dX6_asksSign_8 rfl (lv_at hl 1 rfl) ?_
    obtain ⟨r1, z1, h1, hf⟩ := bnd_open hf
    refine m_callVi (As := [.int a1]) (rest := []) X hM hl mc_takesSign (c_takesSign h1) rfl (Nat.le_of_ble_eq_true rfl) (Nat.le_of_ble_eq_true rfl) rfl dX6_asksSign_9 (fun H locs hM => ?_)
    refine g_if_ne (tgt := 24) G dX6_asksSign_12 rfl (fun c2 => ?_) (fun c2 => ?_)
    · have hf := it_neg c2 hf
      exact m_vret X hM hf dX6_asksSign_24
    · have hf := it_pos c2 hf
      refine g_aload_n G dX6_asksSign_15 rfl (lv_at hl 0 rfl) ?_
      refine g_iconst (v := 1) G dX6_asksSign_16 rfl ?_
      refine g_aload_n G dX6_asksSign_17 rfl (lv_at hl 0 rfl) ?_
      refine mg_i X hM mf_2 dX6_asksSign_18 ?_
      obtain ⟨z2, h2, hf⟩ := bnv_open hf
      refine m_callVv (As := [.int 1, .int (mI z1 2)]) (rest := []) X hM hl mc_fail (c_fail h2) rfl (Nat.le_of_ble_eq_true rfl) (Nat.le_of_ble_eq_true rfl) rfl dX6_asksSign_21 (fun H locs hM => ?_)
      exact m_vret X hM hf dX6_asksSign_24
theorem mc_number : mcV yX6_number cX6_number 5 (some .int) 2 334 := ⟨lw_V q2005 q2007 qs67 q157 q2008, ⟨rfl, by decide +kernel, by decide +kernel, by decide +kernel⟩, Nat.le_of_ble_eq_true rfl⟩
noncomputable def m_number_L49 (z2 : MS) (k129 : Int32 → MS → Option (Int32 × MS)) (k85 : MS → Option (Int32 × MS)) (s49 : Int32 → MS → Option (Int32 × MS)) (x2 : Int32) (z11 : MS) : Option (Int32 × MS) :=
  if (mI z11 3) ≤ (mI z11 2) then
    k129 x2 z11
  else
    ck (inb (mI z11 2) (mN 0)) <|
    bnd (m_isDigit (mA z11 0 (Int32.toNatClampNeg (mI z11 2))) z11) fun r4 z12 =>
    if (bI r4) = 0 then
      k129 x2 z12
    else
      if ((mI z12 2) - (mI z2 2)) = 4 then
        k85 z12
      else
        ck (inb (mI z12 2) (mN 0)) <|
        nm (wI z12 2 ((mI z12 2) + 1)) fun z13 =>
        s49 (((10 * x2) + (mA z12 0 (Int32.toNatClampNeg (mI z12 2)))) - 48) z13
noncomputable def m_number (a1 : Int32) (a2 : Int32) (z : MS) : Option (Int32 × MS) :=
  if (mI z 5) = 0 then
    bnd (m_look z) fun r1 z1 =>
    bnd (m_isDigit r1 z1) fun r2 z2 =>
    jn (fun (z3 : MS) =>
      bnv (m_fail 1 (mI z3 2) z3) fun z4 =>
      some (0, z4)) fun j30 =>
    if (bI r2) = 0 then
      j30 z2
    else
      if (mI z2 2) = (mI z2 4) then
        j30 z2
      else
        jn (fun (x1 : Int32) (z5 : MS) =>
          nm (wI z5 4 (mI z5 2)) fun z6 =>
          bnd (m_isIn (Int32.toInt64 x1) (Int32.toInt64 a1) (Int32.toInt64 a2) z6) fun r3 z7 =>
          if (bI r3) = 0 then
            bnv (m_fail 2 (mI z2 2) z7) fun z8 =>
            some (x1, z8)
          else
            some (x1, z7)) fun k129 =>
        jn (fun (z9 : MS) =>
          bnv (m_fail 1 (mI z9 2) z9) fun z10 =>
          some (0, z10)) fun k85 =>
        fx (m_number_L49 z2 k129 k85) (fun _ _ => none) FU 0 z2
  else
    some (0, z)
set_option maxHeartbeats 1000000 in
theorem c_number {l : Launch} {D : MD} {o : Nat} {ad : Nat → Nat} {a1 : Int32} {a2 : Int32} {z z' : MS} {r : Int32} (hf : m_number a1 a2 z = some (r, z')) : MMet l D o ad yX6_number cX6_number 5 (some .int) 2 [.ref o, .int a1, .int a2] z z' (some (.int r)) := by
  unfold m_number at hf
  refine m_head pnX6 rfl (Nat.le_of_ble_eq_true rfl) (fun m Z H0 ls X hM hl => ?_)
  have G := X.g
  have hl : lv_has ls 5 [(0, .ref o), (1, .int a1), (2, .int a2)] := hl
  refine g_aload_n G dX6_number_0 rfl (lv_at hl 0 rfl) ?_
  refine mg_i X hM mf_5 dX6_number_1 ?_
  refine g_if_eq (tgt := 9) G dX6_number_4 rfl (fun c1 => ?_) (fun c1 => ?_)
  · have hf := it_pos c1 hf
    refine g_aload_n G dX6_number_9 rfl (lv_at hl 0 rfl) ?_
    obtain ⟨r1, z1, h1, hf⟩ := bnd_open hf
    refine m_callVi (As := []) (rest := []) X hM hl mc_look (c_look h1) rfl (Nat.le_of_ble_eq_true rfl) (Nat.le_of_ble_eq_true rfl) rfl dX6_number_10 (fun H locs hM => ?_)
    obtain ⟨r2, z2, h2, hf⟩ := bnd_open hf
    refine m_callSi (As := [.int r1]) (rest := []) X hM hl mc_isDigit (c_isDigit h2) rfl (Nat.le_of_ble_eq_true rfl) (Nat.le_of_ble_eq_true rfl) rfl dX6_number_13 (fun H locs hM => ?_)
    obtain ⟨j30, hj30, hf⟩ := jn_open hf
    have J30 : ∀ (z3 : MS) (H : Heap) (locs : List Loc), j30 z3 = some (r, z') → MI D o ad H0 z3 H locs → ∀ ls : Array Slot, lv_has ls 5 [(0, .ref o)] → Z H locs 0 0 (F0 m 30 ls []) := by
      intro z3 H locs hf hM ls hl
      rw [hj30] at hf
      refine g_aload_n G dX6_number_30 rfl (lv_at hl 0 rfl) ?_
      refine g_iconst (v := 1) G dX6_number_31 rfl ?_
      refine g_aload_n G dX6_number_32 rfl (lv_at hl 0 rfl) ?_
      refine mg_i X hM mf_2 dX6_number_33 ?_
      obtain ⟨z4, h3, hf⟩ := bnv_open hf
      refine m_callVv (As := [.int 1, .int (mI z3 2)]) (rest := []) X hM hl mc_fail (c_fail h3) rfl (Nat.le_of_ble_eq_true rfl) (Nat.le_of_ble_eq_true rfl) rfl dX6_number_36 (fun H locs hM => ?_)
      refine g_iconst (v := 0) G dX6_number_39 rfl ?_
      exact m_iret X hM hf dX6_number_40
    refine g_if_eq (tgt := 30) G dX6_number_16 rfl (fun c2 => ?_) (fun c2 => ?_)
    · have hf := it_pos c2 hf
      exact J30 _ _ _ hf hM ls (lv_sub hl [0] rfl)
    · have hf := it_neg c2 hf
      refine g_aload_n G dX6_number_19 rfl (lv_at hl 0 rfl) ?_
      refine mg_i X hM mf_2 dX6_number_20 ?_
      refine g_aload_n G dX6_number_23 rfl (lv_at hl 0 rfl) ?_
      refine mg_i X hM mf_4 dX6_number_24 ?_
      refine g_icmp_ne (tgt := 41) G dX6_number_27 rfl (fun c3 => ?_) (fun c3 => ?_)
      · have hf := it_neg c3 hf
        refine g_aload_n G dX6_number_41 rfl (lv_at hl 0 rfl) ?_
        refine mg_i X hM mf_2 dX6_number_42 ?_
        refine g_istore_n (lv' := [(3, .int (mI z2 2)), (0, .ref o), (1, .int a1), (2, .int a2)]) G dX6_number_45 rfl hl (Nat.le_of_ble_eq_true rfl) rfl (fun ls hl => ?_)
        refine g_iconst (v := 0) G dX6_number_46 rfl ?_
        refine g_istore (lv' := [(4, .int 0), (3, .int (mI z2 2)), (0, .ref o), (1, .int a1), (2, .int a2)]) G dX6_number_47 hl (Nat.le_of_ble_eq_true rfl) rfl (fun ls hl => ?_)
        obtain ⟨k129, hk129, hf⟩ := jn_open hf
        have K129 : ∀ (x1 : Int32) (z5 : MS) (H : Heap) (locs : List Loc), k129 x1 z5 = some (r, z') → MI D o ad H0 z5 H locs → ∀ ls : Array Slot, lv_has ls 5 [(0, .ref o), (1, .int a1), (2, .int a2), (3, .int (mI z2 2)), (4, .int x1)] → Z H locs 0 0 (F0 m 129 ls []) := by
          intro x1 z5 H locs hf hM ls hl
          rw [hk129] at hf
          refine g_aload_n G dX6_number_129 rfl (lv_at hl 0 rfl) ?_
          refine g_aload_n G dX6_number_130 rfl (lv_at hl 0 rfl) ?_
          refine mg_i X hM mf_2 dX6_number_131 ?_
          obtain ⟨z6, hz6, hf⟩ := nm_open hf
          refine mp_i X hM mf_4 hz6 dX6_number_134 (fun H locs hM => ?_)
          refine g_iload G dX6_number_137 (lv_at hl 4 rfl) ?_
          refine g_i2l (v := Int32.toInt64 x1) G dX6_number_139 rfl ?_
          refine g_iload_n G dX6_number_140 rfl (lv_at hl 1 rfl) ?_
          refine g_i2l (v := Int32.toInt64 a1) G dX6_number_141 rfl ?_
          refine g_iload_n G dX6_number_142 rfl (lv_at hl 2 rfl) ?_
          refine g_i2l (v := Int32.toInt64 a2) G dX6_number_143 rfl ?_
          obtain ⟨r3, z7, h4, hf⟩ := bnd_open hf
          refine m_callSi (As := [.long (Int32.toInt64 x1), .long (Int32.toInt64 a1), .long (Int32.toInt64 a2)]) (rest := []) X hM hl mc_isIn (c_isIn h4) rfl (Nat.le_of_ble_eq_true rfl) (Nat.le_of_ble_eq_true rfl) rfl dX6_number_144 (fun H locs hM => ?_)
          refine g_if_ne (tgt := 156) G dX6_number_147 rfl (fun c4 => ?_) (fun c4 => ?_)
          · have hf := it_neg c4 hf
            refine g_iload G dX6_number_156 (lv_at hl 4 rfl) ?_
            exact m_iret X hM hf dX6_number_158
          · have hf := it_pos c4 hf
            refine g_aload_n G dX6_number_150 rfl (lv_at hl 0 rfl) ?_
            refine g_iconst (v := 2) G dX6_number_151 rfl ?_
            refine g_iload_n G dX6_number_152 rfl (lv_at hl 3 rfl) ?_
            obtain ⟨z8, h5, hf⟩ := bnv_open hf
            refine m_callVv (As := [.int 2, .int (mI z2 2)]) (rest := []) X hM hl mc_fail (c_fail h5) rfl (Nat.le_of_ble_eq_true rfl) (Nat.le_of_ble_eq_true rfl) rfl dX6_number_153 (fun H locs hM => ?_)
            refine g_iload G dX6_number_156 (lv_at hl 4 rfl) ?_
            exact m_iret X hM hf dX6_number_158
        obtain ⟨k85, hk85, hf⟩ := jn_open hf
        have K85 : ∀ (z9 : MS) (H : Heap) (locs : List Loc), k85 z9 = some (r, z') → MI D o ad H0 z9 H locs → ∀ ls : Array Slot, lv_has ls 5 [(0, .ref o)] → Z H locs 0 0 (F0 m 85 ls []) := by
          intro z9 H locs hf hM ls hl
          rw [hk85] at hf
          refine g_aload_n G dX6_number_85 rfl (lv_at hl 0 rfl) ?_
          refine g_iconst (v := 1) G dX6_number_86 rfl ?_
          refine g_aload_n G dX6_number_87 rfl (lv_at hl 0 rfl) ?_
          refine mg_i X hM mf_2 dX6_number_88 ?_
          obtain ⟨z10, h6, hf⟩ := bnv_open hf
          refine m_callVv (As := [.int 1, .int (mI z9 2)]) (rest := []) X hM hl mc_fail (c_fail h6) rfl (Nat.le_of_ble_eq_true rfl) (Nat.le_of_ble_eq_true rfl) rfl dX6_number_91 (fun H locs hM => ?_)
          refine g_iconst (v := 0) G dX6_number_94 rfl ?_
          exact m_iret X hM hf dX6_number_95
        have L49 : ∀ (n : Nat) (x2 : Int32) (z11 : MS) (H : Heap) (locs : List Loc), fx (m_number_L49 z2 k129 k85) (fun _ _ => none) n x2 z11 = some (r, z') → MI D o ad H0 z11 H locs → ∀ ls : Array Slot, lv_has ls 5 [(0, .ref o), (1, .int a1), (2, .int a2), (3, .int (mI z2 2)), (4, .int x2)] → Z H locs 0 0 (F0 m 49 ls []) := by
          intro n
          induction n with
          | zero => intro x2 z11 H locs hf; exact absurd hf (by intro q; cases q)
          | succ n ih49 =>
            intro x2 z11 H locs hf hM ls hl
            rw [fx_s] at hf
            generalize fx (m_number_L49 z2 k129 k85) (fun _ _ => none) n = s49 at hf ih49
            unfold m_number_L49 at hf
            refine g_aload_n G dX6_number_49 rfl (lv_at hl 0 rfl) ?_
            refine mg_i X hM mf_2 dX6_number_50 ?_
            refine g_aload_n G dX6_number_53 rfl (lv_at hl 0 rfl) ?_
            refine mg_i X hM mf_3 dX6_number_54 ?_
            refine g_icmp_ge (tgt := 129) G dX6_number_57 rfl (fun c5 => ?_) (fun c5 => ?_)
            · have hf := it_pos c5 hf
              exact K129 _ _ _ _ hf hM ls (lv_sub hl [0, 1, 2, 3, 4] rfl)
            · have hf := it_neg c5 hf
              refine g_aload_n G dX6_number_60 rfl (lv_at hl 0 rfl) ?_
              refine mg_a X hM mf_0 dX6_number_61 ?_
              refine g_aload_n G dX6_number_64 rfl (lv_at hl 0 rfl) ?_
              refine mg_i X hM mf_2 dX6_number_65 ?_
              obtain ⟨b1, hf⟩ := ck_open hf
              refine m_iald X hM (mIs.of mf_0) b1 dX6_number_68 ?_
              obtain ⟨r4, z12, h7, hf⟩ := bnd_open hf
              refine m_callSi (As := [.int (mA z11 0 (Int32.toNatClampNeg (mI z11 2)))]) (rest := []) X hM hl mc_isDigit (c_isDigit h7) rfl (Nat.le_of_ble_eq_true rfl) (Nat.le_of_ble_eq_true rfl) rfl dX6_number_69 (fun H locs hM => ?_)
              refine g_if_eq (tgt := 129) G dX6_number_72 rfl (fun c6 => ?_) (fun c6 => ?_)
              · have hf := it_pos c6 hf
                exact K129 _ _ _ _ hf hM ls (lv_sub hl [0, 1, 2, 3, 4] rfl)
              · have hf := it_neg c6 hf
                refine g_aload_n G dX6_number_75 rfl (lv_at hl 0 rfl) ?_
                refine mg_i X hM mf_2 dX6_number_76 ?_
                refine g_iload_n G dX6_number_79 rfl (lv_at hl 3 rfl) ?_
                refine g_isub G dX6_number_80 ?_
                refine g_iconst (v := 4) G dX6_number_81 rfl ?_
                refine g_icmp_ne (tgt := 96) G dX6_number_82 rfl (fun c7 => ?_) (fun c7 => ?_)
                · have hf := it_neg c7 hf
                  refine g_bipush (v := 10) G dX6_number_96 rfl ?_
                  refine g_iload G dX6_number_98 (lv_at hl 4 rfl) ?_
                  refine g_imul G dX6_number_100 ?_
                  refine g_aload_n G dX6_number_101 rfl (lv_at hl 0 rfl) ?_
                  refine mg_a X hM mf_0 dX6_number_102 ?_
                  refine g_aload_n G dX6_number_105 rfl (lv_at hl 0 rfl) ?_
                  refine mg_i X hM mf_2 dX6_number_106 ?_
                  obtain ⟨b2, hf⟩ := ck_open hf
                  refine m_iald X hM (mIs.of mf_0) b2 dX6_number_109 ?_
                  refine g_iadd G dX6_number_110 ?_
                  refine g_bipush (v := 48) G dX6_number_111 rfl ?_
                  refine g_isub G dX6_number_113 ?_
                  refine g_istore (lv' := [(4, .int (((10 * x2) + (mA z12 0 (Int32.toNatClampNeg (mI z12 2)))) - 48)), (0, .ref o), (1, .int a1), (2, .int a2), (3, .int (mI z2 2))]) G dX6_number_114 hl (Nat.le_of_ble_eq_true rfl) rfl (fun ls hl => ?_)
                  refine g_aload_n G dX6_number_116 rfl (lv_at hl 1 rfl) ?_
                  refine g_dup G dX6_number_117 rfl ?_
                  refine mg_i X hM mf_2 dX6_number_118 ?_
                  refine g_iconst (v := 1) G dX6_number_121 rfl ?_
                  refine g_iadd G dX6_number_122 ?_
                  obtain ⟨z13, hz13, hf⟩ := nm_open hf
                  refine mp_i X hM mf_2 hz13 dX6_number_123 (fun H locs hM => ?_)
                  refine g_goto (tgt := 49) G dX6_number_126 rfl ?_
                  exact ih49 _ _ _ _ hf hM ls (lv_sub hl [1, 2, 3, 4, 0] rfl)
                · have hf := it_pos c7 hf
                  exact K85 _ _ _ hf hM ls (lv_sub hl [0] rfl)
        exact L49 FU _ _ _ _ hf hM ls (lv_sub hl [2, 3, 4, 1, 0] rfl)
      · have hf := it_pos c3 hf
        exact J30 _ _ _ hf hM ls (lv_sub hl [0] rfl)
  · have hf := it_neg c1 hf
    refine g_iconst (v := 0) G dX6_number_7 rfl ?_
    exact m_iret X hM hf dX6_number_8
theorem mc_isOwnHere : mcV yX6_isOwnHere cX6_isOwnHere 2 (some .boolean) 0 301 := ⟨lw_V q1991 q1993 qs64 q157 q1994, ⟨rfl, by decide +kernel, by decide +kernel, by decide +kernel⟩, Nat.le_of_ble_eq_true rfl⟩
noncomputable def m_isOwnHere (z : MS) : Option (Bool × MS) :=
  bnd (m_isHere 10 z) fun r1 z1 =>
  jn (fun (x1 : Bool) (z2 : MS) =>
    jn (fun (x2 : Bool) (z3 : MS) =>
      jn (fun (x3 : Bool) (z4 : MS) =>
        jn (fun (x4 : Bool) (z5 : MS) =>
          jn (fun (x5 : Bool) (z6 : MS) =>
            some (x5, z6)) fun j353 =>
          jn (fun (z7 : MS) =>
            j353 true z7) fun j348 =>
          if (bI x4) = 0 then
            bnd (m_isHere 34 z5) fun r2 z8 =>
            if (bI r2) = 0 then
              bnd (m_isHere 35 z8) fun r3 z9 =>
              if (bI r3) = 0 then
                bnd (m_isHere 36 z9) fun r4 z10 =>
                if (bI r4) = 0 then
                  bnd (m_isHere 37 z10) fun r5 z11 =>
                  if (bI r5) = 0 then
                    j353 false z11
                  else
                    j348 z11
                else
                  j348 z10
              else
                j348 z9
            else
              j348 z8
          else
            j348 z5) fun j299 =>
        jn (fun (z12 : MS) =>
          j299 true z12) fun j294 =>
        if (bI x3) = 0 then
          bnd (m_isHere 28 z4) fun r6 z13 =>
          if (bI r6) = 0 then
            bnd (m_isHere 29 z13) fun r7 z14 =>
            if (bI r7) = 0 then
              bnd (m_isHere 30 z14) fun r8 z15 =>
              if (bI r8) = 0 then
                bnd (m_isHere 31 z15) fun r9 z16 =>
                if (bI r9) = 0 then
                  bnd (m_isHere 32 z16) fun r10 z17 =>
                  if (bI r10) = 0 then
                    bnd (m_isHere 33 z17) fun r11 z18 =>
                    if (bI r11) = 0 then
                      j299 false z18
                    else
                      j294 z18
                  else
                    j294 z17
                else
                  j294 z16
              else
                j294 z15
            else
              j294 z14
          else
            j294 z13
        else
          j294 z4) fun j223 =>
      jn (fun (z19 : MS) =>
        j223 true z19) fun j218 =>
      if (bI x2) = 0 then
        bnd (m_isHere 22 z3) fun r12 z20 =>
        if (bI r12) = 0 then
          bnd (m_isHere 23 z20) fun r13 z21 =>
          if (bI r13) = 0 then
            bnd (m_isHere 24 z21) fun r14 z22 =>
            if (bI r14) = 0 then
              bnd (m_isHere 25 z22) fun r15 z23 =>
              if (bI r15) = 0 then
                bnd (m_isHere 26 z23) fun r16 z24 =>
                if (bI r16) = 0 then
                  bnd (m_isHere 27 z24) fun r17 z25 =>
                  if (bI r17) = 0 then
                    j223 false z25
                  else
                    j218 z25
                else
                  j218 z24
              else
                j218 z23
            else
              j218 z22
          else
            j218 z21
        else
          j218 z20
      else
        j218 z3) fun j147 =>
    jn (fun (z26 : MS) =>
      j147 true z26) fun j142 =>
    if (bI x1) = 0 then
      bnd (m_isHere 16 z2) fun r18 z27 =>
      if (bI r18) = 0 then
        bnd (m_isHere 17 z27) fun r19 z28 =>
        if (bI r19) = 0 then
          bnd (m_isHere 18 z28) fun r20 z29 =>
          if (bI r20) = 0 then
            bnd (m_isHere 19 z29) fun r21 z30 =>
            if (bI r21) = 0 then
              bnd (m_isHere 20 z30) fun r22 z31 =>
              if (bI r22) = 0 then
                bnd (m_isHere 21 z31) fun r23 z32 =>
                if (bI r23) = 0 then
                  j147 false z32
                else
                  j142 z32
              else
                j142 z31
            else
              j142 z30
          else
            j142 z29
        else
          j142 z28
      else
        j142 z27
    else
      j142 z2) fun j71 =>
  jn (fun (z33 : MS) =>
    j71 true z33) fun j66 =>
  if (bI r1) = 0 then
    bnd (m_isHere 11 z1) fun r24 z34 =>
    if (bI r24) = 0 then
      bnd (m_isHere 12 z34) fun r25 z35 =>
      if (bI r25) = 0 then
        bnd (m_isHere 13 z35) fun r26 z36 =>
        if (bI r26) = 0 then
          bnd (m_isHere 14 z36) fun r27 z37 =>
          if (bI r27) = 0 then
            bnd (m_isHere 15 z37) fun r28 z38 =>
            if (bI r28) = 0 then
              j71 false z38
            else
              j66 z38
          else
            j66 z37
        else
          j66 z36
      else
        j66 z35
    else
      j66 z34
  else
    j66 z1
set_option maxHeartbeats 1000000 in
theorem c_isOwnHere {l : Launch} {D : MD} {o : Nat} {ad : Nat → Nat} {z z' : MS} {r : Bool} (hf : m_isOwnHere z = some (r, z')) : MMet l D o ad yX6_isOwnHere cX6_isOwnHere 2 (some .boolean) 3 [.ref o] z z' (some (.int (bI r))) := by
  unfold m_isOwnHere at hf
  refine m_head pnX6 rfl (Nat.le_of_ble_eq_true rfl) (fun m Z H0 ls X hM hl => ?_)
  have G := X.g
  have hl : lv_has ls 2 [(0, .ref o)] := hl
  refine g_aload_n G dX6_isOwnHere_0 rfl (lv_at hl 0 rfl) ?_
  refine g_aload_n G dX6_isOwnHere_1 rfl (lv_at hl 0 rfl) ?_
  refine mg_a X hM mf_10 dX6_isOwnHere_2 ?_
  obtain ⟨r1, z1, h1, hf⟩ := bnd_open hf
  refine m_callVi (As := [.ref (ad 10)]) (rest := []) X hM hl mc_isHere (c_isHere (mIs.of mf_10) h1) rfl (Nat.le_of_ble_eq_true rfl) (Nat.le_of_ble_eq_true rfl) rfl dX6_isOwnHere_5 (fun H locs hM => ?_)
  obtain ⟨j71, hj71, hf⟩ := jn_open hf
  have J71 : ∀ (x1 : Bool) (z2 : MS) (H : Heap) (locs : List Loc), j71 x1 z2 = some (r, z') → MI D o ad H0 z2 H locs → ∀ ls : Array Slot, lv_has ls 2 [(0, .ref o)] → Z H locs 0 0 (F0 m 71 ls [.int (bI x1)]) := by
    intro x1 z2 H locs hf hM ls hl
    rw [hj71] at hf
    refine g_istore_n (lv' := [(1, .int (bI x1)), (0, .ref o)]) G dX6_isOwnHere_71 rfl hl (Nat.le_of_ble_eq_true rfl) rfl (fun ls hl => ?_)
    refine g_iload_n G dX6_isOwnHere_72 rfl (lv_at hl 0 rfl) ?_
    obtain ⟨j147, hj147, hf⟩ := jn_open hf
    have J147 : ∀ (x2 : Bool) (z3 : MS) (H : Heap) (locs : List Loc), j147 x2 z3 = some (r, z') → MI D o ad H0 z3 H locs → ∀ ls : Array Slot, lv_has ls 2 [(0, .ref o)] → Z H locs 0 0 (F0 m 147 ls [.int (bI x2)]) := by
      intro x2 z3 H locs hf hM ls hl
      rw [hj147] at hf
      refine g_istore_n (lv' := [(1, .int (bI x2)), (0, .ref o)]) G dX6_isOwnHere_147 rfl hl (Nat.le_of_ble_eq_true rfl) rfl (fun ls hl => ?_)
      refine g_iload_n G dX6_isOwnHere_148 rfl (lv_at hl 0 rfl) ?_
      obtain ⟨j223, hj223, hf⟩ := jn_open hf
      have J223 : ∀ (x3 : Bool) (z4 : MS) (H : Heap) (locs : List Loc), j223 x3 z4 = some (r, z') → MI D o ad H0 z4 H locs → ∀ ls : Array Slot, lv_has ls 2 [(0, .ref o)] → Z H locs 0 0 (F0 m 223 ls [.int (bI x3)]) := by
        intro x3 z4 H locs hf hM ls hl
        rw [hj223] at hf
        refine g_istore_n (lv' := [(1, .int (bI x3)), (0, .ref o)]) G dX6_isOwnHere_223 rfl hl (Nat.le_of_ble_eq_true rfl) rfl (fun ls hl => ?_)
        refine g_iload_n G dX6_isOwnHere_224 rfl (lv_at hl 0 rfl) ?_
        obtain ⟨j299, hj299, hf⟩ := jn_open hf
        have J299 : ∀ (x4 : Bool) (z5 : MS) (H : Heap) (locs : List Loc), j299 x4 z5 = some (r, z') → MI D o ad H0 z5 H locs → ∀ ls : Array Slot, lv_has ls 2 [(0, .ref o)] → Z H locs 0 0 (F0 m 299 ls [.int (bI x4)]) := by
          intro x4 z5 H locs hf hM ls hl
          rw [hj299] at hf
          refine g_istore_n (lv' := [(1, .int (bI x4)), (0, .ref o)]) G dX6_isOwnHere_299 rfl hl (Nat.le_of_ble_eq_true rfl) rfl (fun ls hl => ?_)
          refine g_iload_n G dX6_isOwnHere_300 rfl (lv_at hl 0 rfl) ?_
          obtain ⟨j353, hj353, hf⟩ := jn_open hf
          have J353 : ∀ (x5 : Bool) (z6 : MS) (H : Heap) (locs : List Loc), j353 x5 z6 = some (r, z') → MI D o ad H0 z6 H locs → ∀ ls : Array Slot, lv_has ls 2 [] → Z H locs 0 0 (F0 m 353 ls [.int (bI x5)]) := by
            intro x5 z6 H locs hf hM ls hl
            rw [hj353] at hf
            refine g_istore_n (lv' := [(1, .int (bI x5))]) G dX6_isOwnHere_353 rfl hl (Nat.le_of_ble_eq_true rfl) rfl (fun ls hl => ?_)
            refine g_iload_n G dX6_isOwnHere_354 rfl (lv_at hl 0 rfl) ?_
            exact m_zret X hM hf dX6_isOwnHere_355
          obtain ⟨j348, hj348, hf⟩ := jn_open hf
          have J348 : ∀ (z7 : MS) (H : Heap) (locs : List Loc), j348 z7 = some (r, z') → MI D o ad H0 z7 H locs → ∀ ls : Array Slot, lv_has ls 2 [] → Z H locs 0 0 (F0 m 348 ls []) := by
            intro z7 H locs hf hM ls hl
            rw [hj348] at hf
            refine g_iconst (v := 1) G dX6_isOwnHere_348 rfl ?_
            refine g_goto (tgt := 353) G dX6_isOwnHere_349 rfl ?_
            exact J353 _ _ _ _ hf hM ls (lv_sub hl [] rfl)
          refine g_if_ne (tgt := 348) G dX6_isOwnHere_301 rfl (fun c1 => ?_) (fun c1 => ?_)
          · have hf := it_neg c1 hf
            exact J348 _ _ _ hf hM ls (lv_sub hl [] rfl)
          · have hf := it_pos c1 hf
            refine g_aload_n G dX6_isOwnHere_304 rfl (lv_at hl 1 rfl) ?_
            refine g_aload_n G dX6_isOwnHere_305 rfl (lv_at hl 1 rfl) ?_
            refine mg_a X hM mf_34 dX6_isOwnHere_306 ?_
            obtain ⟨r2, z8, h2, hf⟩ := bnd_open hf
            refine m_callVi (As := [.ref (ad 34)]) (rest := []) X hM hl mc_isHere (c_isHere (mIs.of mf_34) h2) rfl (Nat.le_of_ble_eq_true rfl) (Nat.le_of_ble_eq_true rfl) rfl dX6_isOwnHere_309 (fun H locs hM => ?_)
            refine g_if_ne (tgt := 348) G dX6_isOwnHere_312 rfl (fun c2 => ?_) (fun c2 => ?_)
            · have hf := it_neg c2 hf
              exact J348 _ _ _ hf hM ls (lv_sub hl [] rfl)
            · have hf := it_pos c2 hf
              refine g_aload_n G dX6_isOwnHere_315 rfl (lv_at hl 1 rfl) ?_
              refine g_aload_n G dX6_isOwnHere_316 rfl (lv_at hl 1 rfl) ?_
              refine mg_a X hM mf_35 dX6_isOwnHere_317 ?_
              obtain ⟨r3, z9, h3, hf⟩ := bnd_open hf
              refine m_callVi (As := [.ref (ad 35)]) (rest := []) X hM hl mc_isHere (c_isHere (mIs.of mf_35) h3) rfl (Nat.le_of_ble_eq_true rfl) (Nat.le_of_ble_eq_true rfl) rfl dX6_isOwnHere_320 (fun H locs hM => ?_)
              refine g_if_ne (tgt := 348) G dX6_isOwnHere_323 rfl (fun c3 => ?_) (fun c3 => ?_)
              · have hf := it_neg c3 hf
                exact J348 _ _ _ hf hM ls (lv_sub hl [] rfl)
              · have hf := it_pos c3 hf
                refine g_aload_n G dX6_isOwnHere_326 rfl (lv_at hl 1 rfl) ?_
                refine g_aload_n G dX6_isOwnHere_327 rfl (lv_at hl 1 rfl) ?_
                refine mg_a X hM mf_36 dX6_isOwnHere_328 ?_
                obtain ⟨r4, z10, h4, hf⟩ := bnd_open hf
                refine m_callVi (As := [.ref (ad 36)]) (rest := []) X hM hl mc_isHere (c_isHere (mIs.of mf_36) h4) rfl (Nat.le_of_ble_eq_true rfl) (Nat.le_of_ble_eq_true rfl) rfl dX6_isOwnHere_331 (fun H locs hM => ?_)
                refine g_if_ne (tgt := 348) G dX6_isOwnHere_334 rfl (fun c4 => ?_) (fun c4 => ?_)
                · have hf := it_neg c4 hf
                  exact J348 _ _ _ hf hM ls (lv_sub hl [] rfl)
                · have hf := it_pos c4 hf
                  refine g_aload_n G dX6_isOwnHere_337 rfl (lv_at hl 1 rfl) ?_
                  refine g_aload_n G dX6_isOwnHere_338 rfl (lv_at hl 1 rfl) ?_
                  refine mg_a X hM mf_37 dX6_isOwnHere_339 ?_
                  obtain ⟨r5, z11, h5, hf⟩ := bnd_open hf
                  refine m_callVi (As := [.ref (ad 37)]) (rest := []) X hM hl mc_isHere (c_isHere (mIs.of mf_37) h5) rfl (Nat.le_of_ble_eq_true rfl) (Nat.le_of_ble_eq_true rfl) rfl dX6_isOwnHere_342 (fun H locs hM => ?_)
                  refine g_if_eq (tgt := 352) G dX6_isOwnHere_345 rfl (fun c5 => ?_) (fun c5 => ?_)
                  · have hf := it_pos c5 hf
                    refine g_iconst (v := 0) G dX6_isOwnHere_352 rfl ?_
                    exact J353 _ _ _ _ hf hM ls (lv_sub hl [] rfl)
                  · have hf := it_neg c5 hf
                    exact J348 _ _ _ hf hM ls (lv_sub hl [] rfl)
        obtain ⟨j294, hj294, hf⟩ := jn_open hf
        have J294 : ∀ (z12 : MS) (H : Heap) (locs : List Loc), j294 z12 = some (r, z') → MI D o ad H0 z12 H locs → ∀ ls : Array Slot, lv_has ls 2 [(0, .ref o)] → Z H locs 0 0 (F0 m 294 ls []) := by
          intro z12 H locs hf hM ls hl
          rw [hj294] at hf
          refine g_iconst (v := 1) G dX6_isOwnHere_294 rfl ?_
          refine g_goto (tgt := 299) G dX6_isOwnHere_295 rfl ?_
          exact J299 _ _ _ _ hf hM ls (lv_sub hl [0] rfl)
        refine g_if_ne (tgt := 294) G dX6_isOwnHere_225 rfl (fun c6 => ?_) (fun c6 => ?_)
        · have hf := it_neg c6 hf
          exact J294 _ _ _ hf hM ls (lv_sub hl [1] rfl)
        · have hf := it_pos c6 hf
          refine g_aload_n G dX6_isOwnHere_228 rfl (lv_at hl 1 rfl) ?_
          refine g_aload_n G dX6_isOwnHere_229 rfl (lv_at hl 1 rfl) ?_
          refine mg_a X hM mf_28 dX6_isOwnHere_230 ?_
          obtain ⟨r6, z13, h6, hf⟩ := bnd_open hf
          refine m_callVi (As := [.ref (ad 28)]) (rest := []) X hM hl mc_isHere (c_isHere (mIs.of mf_28) h6) rfl (Nat.le_of_ble_eq_true rfl) (Nat.le_of_ble_eq_true rfl) rfl dX6_isOwnHere_233 (fun H locs hM => ?_)
          refine g_if_ne (tgt := 294) G dX6_isOwnHere_236 rfl (fun c7 => ?_) (fun c7 => ?_)
          · have hf := it_neg c7 hf
            exact J294 _ _ _ hf hM ls (lv_sub hl [1] rfl)
          · have hf := it_pos c7 hf
            refine g_aload_n G dX6_isOwnHere_239 rfl (lv_at hl 1 rfl) ?_
            refine g_aload_n G dX6_isOwnHere_240 rfl (lv_at hl 1 rfl) ?_
            refine mg_a X hM mf_29 dX6_isOwnHere_241 ?_
            obtain ⟨r7, z14, h7, hf⟩ := bnd_open hf
            refine m_callVi (As := [.ref (ad 29)]) (rest := []) X hM hl mc_isHere (c_isHere (mIs.of mf_29) h7) rfl (Nat.le_of_ble_eq_true rfl) (Nat.le_of_ble_eq_true rfl) rfl dX6_isOwnHere_244 (fun H locs hM => ?_)
            refine g_if_ne (tgt := 294) G dX6_isOwnHere_247 rfl (fun c8 => ?_) (fun c8 => ?_)
            · have hf := it_neg c8 hf
              exact J294 _ _ _ hf hM ls (lv_sub hl [1] rfl)
            · have hf := it_pos c8 hf
              refine g_aload_n G dX6_isOwnHere_250 rfl (lv_at hl 1 rfl) ?_
              refine g_aload_n G dX6_isOwnHere_251 rfl (lv_at hl 1 rfl) ?_
              refine mg_a X hM mf_30 dX6_isOwnHere_252 ?_
              obtain ⟨r8, z15, h8, hf⟩ := bnd_open hf
              refine m_callVi (As := [.ref (ad 30)]) (rest := []) X hM hl mc_isHere (c_isHere (mIs.of mf_30) h8) rfl (Nat.le_of_ble_eq_true rfl) (Nat.le_of_ble_eq_true rfl) rfl dX6_isOwnHere_255 (fun H locs hM => ?_)
              refine g_if_ne (tgt := 294) G dX6_isOwnHere_258 rfl (fun c9 => ?_) (fun c9 => ?_)
              · have hf := it_neg c9 hf
                exact J294 _ _ _ hf hM ls (lv_sub hl [1] rfl)
              · have hf := it_pos c9 hf
                refine g_aload_n G dX6_isOwnHere_261 rfl (lv_at hl 1 rfl) ?_
                refine g_aload_n G dX6_isOwnHere_262 rfl (lv_at hl 1 rfl) ?_
                refine mg_a X hM mf_31 dX6_isOwnHere_263 ?_
                obtain ⟨r9, z16, h9, hf⟩ := bnd_open hf
                refine m_callVi (As := [.ref (ad 31)]) (rest := []) X hM hl mc_isHere (c_isHere (mIs.of mf_31) h9) rfl (Nat.le_of_ble_eq_true rfl) (Nat.le_of_ble_eq_true rfl) rfl dX6_isOwnHere_266 (fun H locs hM => ?_)
                refine g_if_ne (tgt := 294) G dX6_isOwnHere_269 rfl (fun c10 => ?_) (fun c10 => ?_)
                · have hf := it_neg c10 hf
                  exact J294 _ _ _ hf hM ls (lv_sub hl [1] rfl)
                · have hf := it_pos c10 hf
                  refine g_aload_n G dX6_isOwnHere_272 rfl (lv_at hl 1 rfl) ?_
                  refine g_aload_n G dX6_isOwnHere_273 rfl (lv_at hl 1 rfl) ?_
                  refine mg_a X hM mf_32 dX6_isOwnHere_274 ?_
                  obtain ⟨r10, z17, h10, hf⟩ := bnd_open hf
                  refine m_callVi (As := [.ref (ad 32)]) (rest := []) X hM hl mc_isHere (c_isHere (mIs.of mf_32) h10) rfl (Nat.le_of_ble_eq_true rfl) (Nat.le_of_ble_eq_true rfl) rfl dX6_isOwnHere_277 (fun H locs hM => ?_)
                  refine g_if_ne (tgt := 294) G dX6_isOwnHere_280 rfl (fun c11 => ?_) (fun c11 => ?_)
                  · have hf := it_neg c11 hf
                    exact J294 _ _ _ hf hM ls (lv_sub hl [1] rfl)
                  · have hf := it_pos c11 hf
                    refine g_aload_n G dX6_isOwnHere_283 rfl (lv_at hl 1 rfl) ?_
                    refine g_aload_n G dX6_isOwnHere_284 rfl (lv_at hl 1 rfl) ?_
                    refine mg_a X hM mf_33 dX6_isOwnHere_285 ?_
                    obtain ⟨r11, z18, h11, hf⟩ := bnd_open hf
                    refine m_callVi (As := [.ref (ad 33)]) (rest := []) X hM hl mc_isHere (c_isHere (mIs.of mf_33) h11) rfl (Nat.le_of_ble_eq_true rfl) (Nat.le_of_ble_eq_true rfl) rfl dX6_isOwnHere_288 (fun H locs hM => ?_)
                    refine g_if_eq (tgt := 298) G dX6_isOwnHere_291 rfl (fun c12 => ?_) (fun c12 => ?_)
                    · have hf := it_pos c12 hf
                      refine g_iconst (v := 0) G dX6_isOwnHere_298 rfl ?_
                      exact J299 _ _ _ _ hf hM ls (lv_sub hl [1] rfl)
                    · have hf := it_neg c12 hf
                      exact J294 _ _ _ hf hM ls (lv_sub hl [1] rfl)
      obtain ⟨j218, hj218, hf⟩ := jn_open hf
      have J218 : ∀ (z19 : MS) (H : Heap) (locs : List Loc), j218 z19 = some (r, z') → MI D o ad H0 z19 H locs → ∀ ls : Array Slot, lv_has ls 2 [(0, .ref o)] → Z H locs 0 0 (F0 m 218 ls []) := by
        intro z19 H locs hf hM ls hl
        rw [hj218] at hf
        refine g_iconst (v := 1) G dX6_isOwnHere_218 rfl ?_
        refine g_goto (tgt := 223) G dX6_isOwnHere_219 rfl ?_
        exact J223 _ _ _ _ hf hM ls (lv_sub hl [0] rfl)
      refine g_if_ne (tgt := 218) G dX6_isOwnHere_149 rfl (fun c13 => ?_) (fun c13 => ?_)
      · have hf := it_neg c13 hf
        exact J218 _ _ _ hf hM ls (lv_sub hl [1] rfl)
      · have hf := it_pos c13 hf
        refine g_aload_n G dX6_isOwnHere_152 rfl (lv_at hl 1 rfl) ?_
        refine g_aload_n G dX6_isOwnHere_153 rfl (lv_at hl 1 rfl) ?_
        refine mg_a X hM mf_22 dX6_isOwnHere_154 ?_
        obtain ⟨r12, z20, h12, hf⟩ := bnd_open hf
        refine m_callVi (As := [.ref (ad 22)]) (rest := []) X hM hl mc_isHere (c_isHere (mIs.of mf_22) h12) rfl (Nat.le_of_ble_eq_true rfl) (Nat.le_of_ble_eq_true rfl) rfl dX6_isOwnHere_157 (fun H locs hM => ?_)
        refine g_if_ne (tgt := 218) G dX6_isOwnHere_160 rfl (fun c14 => ?_) (fun c14 => ?_)
        · have hf := it_neg c14 hf
          exact J218 _ _ _ hf hM ls (lv_sub hl [1] rfl)
        · have hf := it_pos c14 hf
          refine g_aload_n G dX6_isOwnHere_163 rfl (lv_at hl 1 rfl) ?_
          refine g_aload_n G dX6_isOwnHere_164 rfl (lv_at hl 1 rfl) ?_
          refine mg_a X hM mf_23 dX6_isOwnHere_165 ?_
          obtain ⟨r13, z21, h13, hf⟩ := bnd_open hf
          refine m_callVi (As := [.ref (ad 23)]) (rest := []) X hM hl mc_isHere (c_isHere (mIs.of mf_23) h13) rfl (Nat.le_of_ble_eq_true rfl) (Nat.le_of_ble_eq_true rfl) rfl dX6_isOwnHere_168 (fun H locs hM => ?_)
          refine g_if_ne (tgt := 218) G dX6_isOwnHere_171 rfl (fun c15 => ?_) (fun c15 => ?_)
          · have hf := it_neg c15 hf
            exact J218 _ _ _ hf hM ls (lv_sub hl [1] rfl)
          · have hf := it_pos c15 hf
            refine g_aload_n G dX6_isOwnHere_174 rfl (lv_at hl 1 rfl) ?_
            refine g_aload_n G dX6_isOwnHere_175 rfl (lv_at hl 1 rfl) ?_
            refine mg_a X hM mf_24 dX6_isOwnHere_176 ?_
            obtain ⟨r14, z22, h14, hf⟩ := bnd_open hf
            refine m_callVi (As := [.ref (ad 24)]) (rest := []) X hM hl mc_isHere (c_isHere (mIs.of mf_24) h14) rfl (Nat.le_of_ble_eq_true rfl) (Nat.le_of_ble_eq_true rfl) rfl dX6_isOwnHere_179 (fun H locs hM => ?_)
            refine g_if_ne (tgt := 218) G dX6_isOwnHere_182 rfl (fun c16 => ?_) (fun c16 => ?_)
            · have hf := it_neg c16 hf
              exact J218 _ _ _ hf hM ls (lv_sub hl [1] rfl)
            · have hf := it_pos c16 hf
              refine g_aload_n G dX6_isOwnHere_185 rfl (lv_at hl 1 rfl) ?_
              refine g_aload_n G dX6_isOwnHere_186 rfl (lv_at hl 1 rfl) ?_
              refine mg_a X hM mf_25 dX6_isOwnHere_187 ?_
              obtain ⟨r15, z23, h15, hf⟩ := bnd_open hf
              refine m_callVi (As := [.ref (ad 25)]) (rest := []) X hM hl mc_isHere (c_isHere (mIs.of mf_25) h15) rfl (Nat.le_of_ble_eq_true rfl) (Nat.le_of_ble_eq_true rfl) rfl dX6_isOwnHere_190 (fun H locs hM => ?_)
              refine g_if_ne (tgt := 218) G dX6_isOwnHere_193 rfl (fun c17 => ?_) (fun c17 => ?_)
              · have hf := it_neg c17 hf
                exact J218 _ _ _ hf hM ls (lv_sub hl [1] rfl)
              · have hf := it_pos c17 hf
                refine g_aload_n G dX6_isOwnHere_196 rfl (lv_at hl 1 rfl) ?_
                refine g_aload_n G dX6_isOwnHere_197 rfl (lv_at hl 1 rfl) ?_
                refine mg_a X hM mf_26 dX6_isOwnHere_198 ?_
                obtain ⟨r16, z24, h16, hf⟩ := bnd_open hf
                refine m_callVi (As := [.ref (ad 26)]) (rest := []) X hM hl mc_isHere (c_isHere (mIs.of mf_26) h16) rfl (Nat.le_of_ble_eq_true rfl) (Nat.le_of_ble_eq_true rfl) rfl dX6_isOwnHere_201 (fun H locs hM => ?_)
                refine g_if_ne (tgt := 218) G dX6_isOwnHere_204 rfl (fun c18 => ?_) (fun c18 => ?_)
                · have hf := it_neg c18 hf
                  exact J218 _ _ _ hf hM ls (lv_sub hl [1] rfl)
                · have hf := it_pos c18 hf
                  refine g_aload_n G dX6_isOwnHere_207 rfl (lv_at hl 1 rfl) ?_
                  refine g_aload_n G dX6_isOwnHere_208 rfl (lv_at hl 1 rfl) ?_
                  refine mg_a X hM mf_27 dX6_isOwnHere_209 ?_
                  obtain ⟨r17, z25, h17, hf⟩ := bnd_open hf
                  refine m_callVi (As := [.ref (ad 27)]) (rest := []) X hM hl mc_isHere (c_isHere (mIs.of mf_27) h17) rfl (Nat.le_of_ble_eq_true rfl) (Nat.le_of_ble_eq_true rfl) rfl dX6_isOwnHere_212 (fun H locs hM => ?_)
                  refine g_if_eq (tgt := 222) G dX6_isOwnHere_215 rfl (fun c19 => ?_) (fun c19 => ?_)
                  · have hf := it_pos c19 hf
                    refine g_iconst (v := 0) G dX6_isOwnHere_222 rfl ?_
                    exact J223 _ _ _ _ hf hM ls (lv_sub hl [1] rfl)
                  · have hf := it_neg c19 hf
                    exact J218 _ _ _ hf hM ls (lv_sub hl [1] rfl)
    obtain ⟨j142, hj142, hf⟩ := jn_open hf
    have J142 : ∀ (z26 : MS) (H : Heap) (locs : List Loc), j142 z26 = some (r, z') → MI D o ad H0 z26 H locs → ∀ ls : Array Slot, lv_has ls 2 [(0, .ref o)] → Z H locs 0 0 (F0 m 142 ls []) := by
      intro z26 H locs hf hM ls hl
      rw [hj142] at hf
      refine g_iconst (v := 1) G dX6_isOwnHere_142 rfl ?_
      refine g_goto (tgt := 147) G dX6_isOwnHere_143 rfl ?_
      exact J147 _ _ _ _ hf hM ls (lv_sub hl [0] rfl)
    refine g_if_ne (tgt := 142) G dX6_isOwnHere_73 rfl (fun c20 => ?_) (fun c20 => ?_)
    · have hf := it_neg c20 hf
      exact J142 _ _ _ hf hM ls (lv_sub hl [1] rfl)
    · have hf := it_pos c20 hf
      refine g_aload_n G dX6_isOwnHere_76 rfl (lv_at hl 1 rfl) ?_
      refine g_aload_n G dX6_isOwnHere_77 rfl (lv_at hl 1 rfl) ?_
      refine mg_a X hM mf_16 dX6_isOwnHere_78 ?_
      obtain ⟨r18, z27, h18, hf⟩ := bnd_open hf
      refine m_callVi (As := [.ref (ad 16)]) (rest := []) X hM hl mc_isHere (c_isHere (mIs.of mf_16) h18) rfl (Nat.le_of_ble_eq_true rfl) (Nat.le_of_ble_eq_true rfl) rfl dX6_isOwnHere_81 (fun H locs hM => ?_)
      refine g_if_ne (tgt := 142) G dX6_isOwnHere_84 rfl (fun c21 => ?_) (fun c21 => ?_)
      · have hf := it_neg c21 hf
        exact J142 _ _ _ hf hM ls (lv_sub hl [1] rfl)
      · have hf := it_pos c21 hf
        refine g_aload_n G dX6_isOwnHere_87 rfl (lv_at hl 1 rfl) ?_
        refine g_aload_n G dX6_isOwnHere_88 rfl (lv_at hl 1 rfl) ?_
        refine mg_a X hM mf_17 dX6_isOwnHere_89 ?_
        obtain ⟨r19, z28, h19, hf⟩ := bnd_open hf
        refine m_callVi (As := [.ref (ad 17)]) (rest := []) X hM hl mc_isHere (c_isHere (mIs.of mf_17) h19) rfl (Nat.le_of_ble_eq_true rfl) (Nat.le_of_ble_eq_true rfl) rfl dX6_isOwnHere_92 (fun H locs hM => ?_)
        refine g_if_ne (tgt := 142) G dX6_isOwnHere_95 rfl (fun c22 => ?_) (fun c22 => ?_)
        · have hf := it_neg c22 hf
          exact J142 _ _ _ hf hM ls (lv_sub hl [1] rfl)
        · have hf := it_pos c22 hf
          refine g_aload_n G dX6_isOwnHere_98 rfl (lv_at hl 1 rfl) ?_
          refine g_aload_n G dX6_isOwnHere_99 rfl (lv_at hl 1 rfl) ?_
          refine mg_a X hM mf_18 dX6_isOwnHere_100 ?_
          obtain ⟨r20, z29, h20, hf⟩ := bnd_open hf
          refine m_callVi (As := [.ref (ad 18)]) (rest := []) X hM hl mc_isHere (c_isHere (mIs.of mf_18) h20) rfl (Nat.le_of_ble_eq_true rfl) (Nat.le_of_ble_eq_true rfl) rfl dX6_isOwnHere_103 (fun H locs hM => ?_)
          refine g_if_ne (tgt := 142) G dX6_isOwnHere_106 rfl (fun c23 => ?_) (fun c23 => ?_)
          · have hf := it_neg c23 hf
            exact J142 _ _ _ hf hM ls (lv_sub hl [1] rfl)
          · have hf := it_pos c23 hf
            refine g_aload_n G dX6_isOwnHere_109 rfl (lv_at hl 1 rfl) ?_
            refine g_aload_n G dX6_isOwnHere_110 rfl (lv_at hl 1 rfl) ?_
            refine mg_a X hM mf_19 dX6_isOwnHere_111 ?_
            obtain ⟨r21, z30, h21, hf⟩ := bnd_open hf
            refine m_callVi (As := [.ref (ad 19)]) (rest := []) X hM hl mc_isHere (c_isHere (mIs.of mf_19) h21) rfl (Nat.le_of_ble_eq_true rfl) (Nat.le_of_ble_eq_true rfl) rfl dX6_isOwnHere_114 (fun H locs hM => ?_)
            refine g_if_ne (tgt := 142) G dX6_isOwnHere_117 rfl (fun c24 => ?_) (fun c24 => ?_)
            · have hf := it_neg c24 hf
              exact J142 _ _ _ hf hM ls (lv_sub hl [1] rfl)
            · have hf := it_pos c24 hf
              refine g_aload_n G dX6_isOwnHere_120 rfl (lv_at hl 1 rfl) ?_
              refine g_aload_n G dX6_isOwnHere_121 rfl (lv_at hl 1 rfl) ?_
              refine mg_a X hM mf_20 dX6_isOwnHere_122 ?_
              obtain ⟨r22, z31, h22, hf⟩ := bnd_open hf
              refine m_callVi (As := [.ref (ad 20)]) (rest := []) X hM hl mc_isHere (c_isHere (mIs.of mf_20) h22) rfl (Nat.le_of_ble_eq_true rfl) (Nat.le_of_ble_eq_true rfl) rfl dX6_isOwnHere_125 (fun H locs hM => ?_)
              refine g_if_ne (tgt := 142) G dX6_isOwnHere_128 rfl (fun c25 => ?_) (fun c25 => ?_)
              · have hf := it_neg c25 hf
                exact J142 _ _ _ hf hM ls (lv_sub hl [1] rfl)
              · have hf := it_pos c25 hf
                refine g_aload_n G dX6_isOwnHere_131 rfl (lv_at hl 1 rfl) ?_
                refine g_aload_n G dX6_isOwnHere_132 rfl (lv_at hl 1 rfl) ?_
                refine mg_a X hM mf_21 dX6_isOwnHere_133 ?_
                obtain ⟨r23, z32, h23, hf⟩ := bnd_open hf
                refine m_callVi (As := [.ref (ad 21)]) (rest := []) X hM hl mc_isHere (c_isHere (mIs.of mf_21) h23) rfl (Nat.le_of_ble_eq_true rfl) (Nat.le_of_ble_eq_true rfl) rfl dX6_isOwnHere_136 (fun H locs hM => ?_)
                refine g_if_eq (tgt := 146) G dX6_isOwnHere_139 rfl (fun c26 => ?_) (fun c26 => ?_)
                · have hf := it_pos c26 hf
                  refine g_iconst (v := 0) G dX6_isOwnHere_146 rfl ?_
                  exact J147 _ _ _ _ hf hM ls (lv_sub hl [1] rfl)
                · have hf := it_neg c26 hf
                  exact J142 _ _ _ hf hM ls (lv_sub hl [1] rfl)
  obtain ⟨j66, hj66, hf⟩ := jn_open hf
  have J66 : ∀ (z33 : MS) (H : Heap) (locs : List Loc), j66 z33 = some (r, z') → MI D o ad H0 z33 H locs → ∀ ls : Array Slot, lv_has ls 2 [(0, .ref o)] → Z H locs 0 0 (F0 m 66 ls []) := by
    intro z33 H locs hf hM ls hl
    rw [hj66] at hf
    refine g_iconst (v := 1) G dX6_isOwnHere_66 rfl ?_
    refine g_goto (tgt := 71) G dX6_isOwnHere_67 rfl ?_
    exact J71 _ _ _ _ hf hM ls (lv_sub hl [0] rfl)
  refine g_if_ne (tgt := 66) G dX6_isOwnHere_8 rfl (fun c27 => ?_) (fun c27 => ?_)
  · have hf := it_neg c27 hf
    exact J66 _ _ _ hf hM ls (lv_sub hl [0] rfl)
  · have hf := it_pos c27 hf
    refine g_aload_n G dX6_isOwnHere_11 rfl (lv_at hl 0 rfl) ?_
    refine g_aload_n G dX6_isOwnHere_12 rfl (lv_at hl 0 rfl) ?_
    refine mg_a X hM mf_11 dX6_isOwnHere_13 ?_
    obtain ⟨r24, z34, h24, hf⟩ := bnd_open hf
    refine m_callVi (As := [.ref (ad 11)]) (rest := []) X hM hl mc_isHere (c_isHere (mIs.of mf_11) h24) rfl (Nat.le_of_ble_eq_true rfl) (Nat.le_of_ble_eq_true rfl) rfl dX6_isOwnHere_16 (fun H locs hM => ?_)
    refine g_if_ne (tgt := 66) G dX6_isOwnHere_19 rfl (fun c28 => ?_) (fun c28 => ?_)
    · have hf := it_neg c28 hf
      exact J66 _ _ _ hf hM ls (lv_sub hl [0] rfl)
    · have hf := it_pos c28 hf
      refine g_aload_n G dX6_isOwnHere_22 rfl (lv_at hl 0 rfl) ?_
      refine g_aload_n G dX6_isOwnHere_23 rfl (lv_at hl 0 rfl) ?_
      refine mg_a X hM mf_12 dX6_isOwnHere_24 ?_
      obtain ⟨r25, z35, h25, hf⟩ := bnd_open hf
      refine m_callVi (As := [.ref (ad 12)]) (rest := []) X hM hl mc_isHere (c_isHere (mIs.of mf_12) h25) rfl (Nat.le_of_ble_eq_true rfl) (Nat.le_of_ble_eq_true rfl) rfl dX6_isOwnHere_27 (fun H locs hM => ?_)
      refine g_if_ne (tgt := 66) G dX6_isOwnHere_30 rfl (fun c29 => ?_) (fun c29 => ?_)
      · have hf := it_neg c29 hf
        exact J66 _ _ _ hf hM ls (lv_sub hl [0] rfl)
      · have hf := it_pos c29 hf
        refine g_aload_n G dX6_isOwnHere_33 rfl (lv_at hl 0 rfl) ?_
        refine g_aload_n G dX6_isOwnHere_34 rfl (lv_at hl 0 rfl) ?_
        refine mg_a X hM mf_13 dX6_isOwnHere_35 ?_
        obtain ⟨r26, z36, h26, hf⟩ := bnd_open hf
        refine m_callVi (As := [.ref (ad 13)]) (rest := []) X hM hl mc_isHere (c_isHere (mIs.of mf_13) h26) rfl (Nat.le_of_ble_eq_true rfl) (Nat.le_of_ble_eq_true rfl) rfl dX6_isOwnHere_38 (fun H locs hM => ?_)
        refine g_if_ne (tgt := 66) G dX6_isOwnHere_41 rfl (fun c30 => ?_) (fun c30 => ?_)
        · have hf := it_neg c30 hf
          exact J66 _ _ _ hf hM ls (lv_sub hl [0] rfl)
        · have hf := it_pos c30 hf
          refine g_aload_n G dX6_isOwnHere_44 rfl (lv_at hl 0 rfl) ?_
          refine g_aload_n G dX6_isOwnHere_45 rfl (lv_at hl 0 rfl) ?_
          refine mg_a X hM mf_14 dX6_isOwnHere_46 ?_
          obtain ⟨r27, z37, h27, hf⟩ := bnd_open hf
          refine m_callVi (As := [.ref (ad 14)]) (rest := []) X hM hl mc_isHere (c_isHere (mIs.of mf_14) h27) rfl (Nat.le_of_ble_eq_true rfl) (Nat.le_of_ble_eq_true rfl) rfl dX6_isOwnHere_49 (fun H locs hM => ?_)
          refine g_if_ne (tgt := 66) G dX6_isOwnHere_52 rfl (fun c31 => ?_) (fun c31 => ?_)
          · have hf := it_neg c31 hf
            exact J66 _ _ _ hf hM ls (lv_sub hl [0] rfl)
          · have hf := it_pos c31 hf
            refine g_aload_n G dX6_isOwnHere_55 rfl (lv_at hl 0 rfl) ?_
            refine g_aload_n G dX6_isOwnHere_56 rfl (lv_at hl 0 rfl) ?_
            refine mg_a X hM mf_15 dX6_isOwnHere_57 ?_
            obtain ⟨r28, z38, h28, hf⟩ := bnd_open hf
            refine m_callVi (As := [.ref (ad 15)]) (rest := []) X hM hl mc_isHere (c_isHere (mIs.of mf_15) h28) rfl (Nat.le_of_ble_eq_true rfl) (Nat.le_of_ble_eq_true rfl) rfl dX6_isOwnHere_60 (fun H locs hM => ?_)
            refine g_if_eq (tgt := 70) G dX6_isOwnHere_63 rfl (fun c32 => ?_) (fun c32 => ?_)
            · have hf := it_pos c32 hf
              refine g_iconst (v := 0) G dX6_isOwnHere_70 rfl ?_
              exact J71 _ _ _ _ hf hM ls (lv_sub hl [0] rfl)
            · have hf := it_neg c32 hf
              exact J66 _ _ _ hf hM ls (lv_sub hl [0] rfl)
theorem mc_name : mcV yX6_name cX6_name 3 (some .long) 0 315 := ⟨lw_V q1987 q1989 qs63 q157 q1990, ⟨rfl, by decide +kernel, by decide +kernel, by decide +kernel⟩, Nat.le_of_ble_eq_true rfl⟩
noncomputable def m_name_L58 (k145 : Int64 → MS → Option (Int64 × MS)) (k98 : MS → Option (Int64 × MS)) (s58 : Int64 → MS → Option (Int64 × MS)) (x2 : Int64) (z11 : MS) : Option (Int64 × MS) :=
  if (mI z11 3) ≤ (mI z11 2) then
    k145 x2 z11
  else
    ck (inb (mI z11 2) (mN 0)) <|
    bnd (m_isLetter (mA z11 0 (Int32.toNatClampNeg (mI z11 2))) z11) fun r4 z12 =>
    if (bI r4) = 0 then
      k145 x2 z12
    else
      if ((mI z12 2) - (mI z12 38)) = 6 then
        k98 z12
      else
        ck (inb (mI z12 2) (mN 0)) <|
        nm (wI z12 2 ((mI z12 2) + 1)) fun z13 =>
        s58 ((((27 * x2) + (Int32.toInt64 (mA z12 0 (Int32.toNatClampNeg (mI z12 2))))) - 97) + 1) z13
noncomputable def m_name (z : MS) : Option (Int64 × MS) :=
  if (mI z 5) = 0 then
    bnd (m_look z) fun r1 z1 =>
    bnd (m_isLetter r1 z1) fun r2 z2 =>
    jn (fun (z3 : MS) =>
      bnv (m_fail 1 (mI z3 2) z3) fun z4 =>
      some (0, z4)) fun j37 =>
    if (bI r2) = 0 then
      j37 z2
    else
      if (mI z2 2) = (mI z2 4) then
        j37 z2
      else
        bnd (m_isOwnHere z2) fun r3 z5 =>
        if (bI r3) = 0 then
          nm (wI z5 38 (mI z5 2)) fun z6 =>
          jn (fun (x1 : Int64) (z7 : MS) =>
            nm (wI z7 4 (mI z7 2)) fun z8 =>
            some (x1, z8)) fun k145 =>
          jn (fun (z9 : MS) =>
            bnv (m_fail 1 (mI z9 2) z9) fun z10 =>
            some (0, z10)) fun k98 =>
          fx (m_name_L58 k145 k98) (fun _ _ => none) FU 0 z6
        else
          j37 z5
  else
    some (0, z)
set_option maxHeartbeats 1000000 in
theorem c_name {l : Launch} {D : MD} {o : Nat} {ad : Nat → Nat} {z z' : MS} {r : Int64} (hf : m_name z = some (r, z')) : MMet l D o ad yX6_name cX6_name 3 (some .long) 4 [.ref o] z z' (some (.long r)) := by
  unfold m_name at hf
  refine m_head pnX6 rfl (Nat.le_of_ble_eq_true rfl) (fun m Z H0 ls X hM hl => ?_)
  have G := X.g
  have hl : lv_has ls 3 [(0, .ref o)] := hl
  refine g_aload_n G dX6_name_0 rfl (lv_at hl 0 rfl) ?_
  refine mg_i X hM mf_5 dX6_name_1 ?_
  refine g_if_eq (tgt := 9) G dX6_name_4 rfl (fun c1 => ?_) (fun c1 => ?_)
  · have hf := it_pos c1 hf
    refine g_aload_n G dX6_name_9 rfl (lv_at hl 0 rfl) ?_
    obtain ⟨r1, z1, h1, hf⟩ := bnd_open hf
    refine m_callVi (As := []) (rest := []) X hM hl mc_look (c_look h1) rfl (Nat.le_of_ble_eq_true rfl) (Nat.le_of_ble_eq_true rfl) rfl dX6_name_10 (fun H locs hM => ?_)
    obtain ⟨r2, z2, h2, hf⟩ := bnd_open hf
    refine m_callSi (As := [.int r1]) (rest := []) X hM hl mc_isLetter (c_isLetter h2) rfl (Nat.le_of_ble_eq_true rfl) (Nat.le_of_ble_eq_true rfl) rfl dX6_name_13 (fun H locs hM => ?_)
    obtain ⟨j37, hj37, hf⟩ := jn_open hf
    have J37 : ∀ (z3 : MS) (H : Heap) (locs : List Loc), j37 z3 = some (r, z') → MI D o ad H0 z3 H locs → ∀ ls : Array Slot, lv_has ls 3 [(0, .ref o)] → Z H locs 0 0 (F0 m 37 ls []) := by
      intro z3 H locs hf hM ls hl
      rw [hj37] at hf
      refine g_aload_n G dX6_name_37 rfl (lv_at hl 0 rfl) ?_
      refine g_iconst (v := 1) G dX6_name_38 rfl ?_
      refine g_aload_n G dX6_name_39 rfl (lv_at hl 0 rfl) ?_
      refine mg_i X hM mf_2 dX6_name_40 ?_
      obtain ⟨z4, h3, hf⟩ := bnv_open hf
      refine m_callVv (As := [.int 1, .int (mI z3 2)]) (rest := []) X hM hl mc_fail (c_fail h3) rfl (Nat.le_of_ble_eq_true rfl) (Nat.le_of_ble_eq_true rfl) rfl dX6_name_43 (fun H locs hM => ?_)
      refine g_lconst (v := 0) G dX6_name_46 rfl ?_
      exact m_lret X hM hf dX6_name_47
    refine g_if_eq (tgt := 37) G dX6_name_16 rfl (fun c2 => ?_) (fun c2 => ?_)
    · have hf := it_pos c2 hf
      exact J37 _ _ _ hf hM ls (lv_sub hl [0] rfl)
    · have hf := it_neg c2 hf
      refine g_aload_n G dX6_name_19 rfl (lv_at hl 0 rfl) ?_
      refine mg_i X hM mf_2 dX6_name_20 ?_
      refine g_aload_n G dX6_name_23 rfl (lv_at hl 0 rfl) ?_
      refine mg_i X hM mf_4 dX6_name_24 ?_
      refine g_icmp_eq (tgt := 37) G dX6_name_27 rfl (fun c3 => ?_) (fun c3 => ?_)
      · have hf := it_pos c3 hf
        exact J37 _ _ _ hf hM ls (lv_sub hl [0] rfl)
      · have hf := it_neg c3 hf
        refine g_aload_n G dX6_name_30 rfl (lv_at hl 0 rfl) ?_
        obtain ⟨r3, z5, h4, hf⟩ := bnd_open hf
        refine m_callVi (As := []) (rest := []) X hM hl mc_isOwnHere (c_isOwnHere h4) rfl (Nat.le_of_ble_eq_true rfl) (Nat.le_of_ble_eq_true rfl) rfl dX6_name_31 (fun H locs hM => ?_)
        refine g_if_eq (tgt := 48) G dX6_name_34 rfl (fun c4 => ?_) (fun c4 => ?_)
        · have hf := it_pos c4 hf
          refine g_aload_n G dX6_name_48 rfl (lv_at hl 0 rfl) ?_
          refine g_aload_n G dX6_name_49 rfl (lv_at hl 0 rfl) ?_
          refine mg_i X hM mf_2 dX6_name_50 ?_
          obtain ⟨z6, hz6, hf⟩ := nm_open hf
          refine mp_i X hM mf_38 hz6 dX6_name_53 (fun H locs hM => ?_)
          refine g_lconst (v := 0) G dX6_name_56 rfl ?_
          refine g_lstore_n (lv' := [(1, .long 0), (0, .ref o)]) G dX6_name_57 rfl hl (Nat.le_of_ble_eq_true rfl) rfl (fun ls hl => ?_)
          obtain ⟨k145, hk145, hf⟩ := jn_open hf
          have K145 : ∀ (x1 : Int64) (z7 : MS) (H : Heap) (locs : List Loc), k145 x1 z7 = some (r, z') → MI D o ad H0 z7 H locs → ∀ ls : Array Slot, lv_has ls 3 [(0, .ref o), (1, .long x1)] → Z H locs 0 0 (F0 m 145 ls []) := by
            intro x1 z7 H locs hf hM ls hl
            rw [hk145] at hf
            refine g_aload_n G dX6_name_145 rfl (lv_at hl 0 rfl) ?_
            refine g_aload_n G dX6_name_146 rfl (lv_at hl 0 rfl) ?_
            refine mg_i X hM mf_2 dX6_name_147 ?_
            obtain ⟨z8, hz8, hf⟩ := nm_open hf
            refine mp_i X hM mf_4 hz8 dX6_name_150 (fun H locs hM => ?_)
            refine g_lload_n G dX6_name_153 rfl (lv_at hl 1 rfl) ?_
            exact m_lret X hM hf dX6_name_154
          obtain ⟨k98, hk98, hf⟩ := jn_open hf
          have K98 : ∀ (z9 : MS) (H : Heap) (locs : List Loc), k98 z9 = some (r, z') → MI D o ad H0 z9 H locs → ∀ ls : Array Slot, lv_has ls 3 [(0, .ref o)] → Z H locs 0 0 (F0 m 98 ls []) := by
            intro z9 H locs hf hM ls hl
            rw [hk98] at hf
            refine g_aload_n G dX6_name_98 rfl (lv_at hl 0 rfl) ?_
            refine g_iconst (v := 1) G dX6_name_99 rfl ?_
            refine g_aload_n G dX6_name_100 rfl (lv_at hl 0 rfl) ?_
            refine mg_i X hM mf_2 dX6_name_101 ?_
            obtain ⟨z10, h5, hf⟩ := bnv_open hf
            refine m_callVv (As := [.int 1, .int (mI z9 2)]) (rest := []) X hM hl mc_fail (c_fail h5) rfl (Nat.le_of_ble_eq_true rfl) (Nat.le_of_ble_eq_true rfl) rfl dX6_name_104 (fun H locs hM => ?_)
            refine g_lconst (v := 0) G dX6_name_107 rfl ?_
            exact m_lret X hM hf dX6_name_108
          have L58 : ∀ (n : Nat) (x2 : Int64) (z11 : MS) (H : Heap) (locs : List Loc), fx (m_name_L58 k145 k98) (fun _ _ => none) n x2 z11 = some (r, z') → MI D o ad H0 z11 H locs → ∀ ls : Array Slot, lv_has ls 3 [(0, .ref o), (1, .long x2)] → Z H locs 0 0 (F0 m 58 ls []) := by
            intro n
            induction n with
            | zero => intro x2 z11 H locs hf; exact absurd hf (by intro q; cases q)
            | succ n ih58 =>
              intro x2 z11 H locs hf hM ls hl
              rw [fx_s] at hf
              generalize fx (m_name_L58 k145 k98) (fun _ _ => none) n = s58 at hf ih58
              unfold m_name_L58 at hf
              refine g_aload_n G dX6_name_58 rfl (lv_at hl 0 rfl) ?_
              refine mg_i X hM mf_2 dX6_name_59 ?_
              refine g_aload_n G dX6_name_62 rfl (lv_at hl 0 rfl) ?_
              refine mg_i X hM mf_3 dX6_name_63 ?_
              refine g_icmp_ge (tgt := 145) G dX6_name_66 rfl (fun c5 => ?_) (fun c5 => ?_)
              · have hf := it_pos c5 hf
                exact K145 _ _ _ _ hf hM ls (lv_sub hl [0, 1] rfl)
              · have hf := it_neg c5 hf
                refine g_aload_n G dX6_name_69 rfl (lv_at hl 0 rfl) ?_
                refine mg_a X hM mf_0 dX6_name_70 ?_
                refine g_aload_n G dX6_name_73 rfl (lv_at hl 0 rfl) ?_
                refine mg_i X hM mf_2 dX6_name_74 ?_
                obtain ⟨b1, hf⟩ := ck_open hf
                refine m_iald X hM (mIs.of mf_0) b1 dX6_name_77 ?_
                obtain ⟨r4, z12, h6, hf⟩ := bnd_open hf
                refine m_callSi (As := [.int (mA z11 0 (Int32.toNatClampNeg (mI z11 2)))]) (rest := []) X hM hl mc_isLetter (c_isLetter h6) rfl (Nat.le_of_ble_eq_true rfl) (Nat.le_of_ble_eq_true rfl) rfl dX6_name_78 (fun H locs hM => ?_)
                refine g_if_eq (tgt := 145) G dX6_name_81 rfl (fun c6 => ?_) (fun c6 => ?_)
                · have hf := it_pos c6 hf
                  exact K145 _ _ _ _ hf hM ls (lv_sub hl [0, 1] rfl)
                · have hf := it_neg c6 hf
                  refine g_aload_n G dX6_name_84 rfl (lv_at hl 0 rfl) ?_
                  refine mg_i X hM mf_2 dX6_name_85 ?_
                  refine g_aload_n G dX6_name_88 rfl (lv_at hl 0 rfl) ?_
                  refine mg_i X hM mf_38 dX6_name_89 ?_
                  refine g_isub G dX6_name_92 ?_
                  refine g_bipush (v := 6) G dX6_name_93 rfl ?_
                  refine g_icmp_ne (tgt := 109) G dX6_name_95 rfl (fun c7 => ?_) (fun c7 => ?_)
                  · have hf := it_neg c7 hf
                    refine g_ldc2 G q1995 dX6_name_109 ?_
                    refine g_lload_n G dX6_name_112 rfl (lv_at hl 1 rfl) ?_
                    refine g_lmul G dX6_name_113 ?_
                    refine g_aload_n G dX6_name_114 rfl (lv_at hl 0 rfl) ?_
                    refine mg_a X hM mf_0 dX6_name_115 ?_
                    refine g_aload_n G dX6_name_118 rfl (lv_at hl 0 rfl) ?_
                    refine mg_i X hM mf_2 dX6_name_119 ?_
                    obtain ⟨b2, hf⟩ := ck_open hf
                    refine m_iald X hM (mIs.of mf_0) b2 dX6_name_122 ?_
                    refine g_i2l (v := Int32.toInt64 (mA z12 0 (Int32.toNatClampNeg (mI z12 2)))) G dX6_name_123 rfl ?_
                    refine g_ladd G dX6_name_124 ?_
                    refine g_ldc2 G q1996 dX6_name_125 ?_
                    refine g_lsub G dX6_name_128 ?_
                    refine g_lconst (v := 1) G dX6_name_129 rfl ?_
                    refine g_ladd G dX6_name_130 ?_
                    refine g_lstore_n (lv' := [(1, .long ((((27 * x2) + (Int32.toInt64 (mA z12 0 (Int32.toNatClampNeg (mI z12 2))))) - 97) + 1)), (0, .ref o)]) G dX6_name_131 rfl hl (Nat.le_of_ble_eq_true rfl) rfl (fun ls hl => ?_)
                    refine g_aload_n G dX6_name_132 rfl (lv_at hl 1 rfl) ?_
                    refine g_dup G dX6_name_133 rfl ?_
                    refine mg_i X hM mf_2 dX6_name_134 ?_
                    refine g_iconst (v := 1) G dX6_name_137 rfl ?_
                    refine g_iadd G dX6_name_138 ?_
                    obtain ⟨z13, hz13, hf⟩ := nm_open hf
                    refine mp_i X hM mf_2 hz13 dX6_name_139 (fun H locs hM => ?_)
                    refine g_goto (tgt := 58) G dX6_name_142 rfl ?_
                    exact ih58 _ _ _ _ hf hM ls (lv_sub hl [1, 0] rfl)
                  · have hf := it_pos c7 hf
                    exact K98 _ _ _ hf hM ls (lv_sub hl [0] rfl)
          exact L58 FU _ _ _ _ hf hM ls (lv_sub hl [1, 0] rfl)
        · have hf := it_neg c4 hf
          exact J37 _ _ _ hf hM ls (lv_sub hl [0] rfl)
  · have hf := it_neg c1 hf
    refine g_lconst (v := 0) G dX6_name_7 rfl ?_
    exact m_lret X hM hf dX6_name_8
theorem mc_isAllowed : mcV yX6_isAllowed cX6_isAllowed 2 (some .boolean) 1 573 := ⟨lw_V q2067 q2069 qs81 q157 q2070, ⟨rfl, by decide +kernel, by decide +kernel, by decide +kernel⟩, Nat.le_of_ble_eq_true rfl⟩
noncomputable def m_isAllowed (a1 : Int32) (z : MS) : Option (Bool × MS) :=
  jn (fun (z1 : MS) =>
    some (true, z1)) fun j55 =>
  if a1 < 4 then
    j55 z
  else
    jn (fun (z2 : MS) =>
      some (false, z2)) fun j59 =>
    if (mI z 52) = 0 then
      if 7 ≤ a1 then
        j59 z
      else
        j55 z
    else
      if (mI z 52) = 1 then
        if a1 = 7 then
          j55 z
        else
          if a1 = 8 then
            j55 z
          else
            j59 z
      else
        if a1 = 4 then
          j55 z
        else
          if a1 ≤ 6 then
            j59 z
          else
            j55 z
set_option maxHeartbeats 1000000 in
theorem c_isAllowed {l : Launch} {D : MD} {o : Nat} {ad : Nat → Nat} {a1 : Int32} {z z' : MS} {r : Bool} (hf : m_isAllowed a1 z = some (r, z')) : MMet l D o ad yX6_isAllowed cX6_isAllowed 2 (some .boolean) 1 [.ref o, .int a1] z z' (some (.int (bI r))) := by
  unfold m_isAllowed at hf
  refine m_head pnX6 rfl (Nat.le_of_ble_eq_true rfl) (fun m Z H0 ls X hM hl => ?_)
  have G := X.g
  have hl : lv_has ls 2 [(0, .ref o), (1, .int a1)] := hl
  refine g_iload_n G dX6_isAllowed_0 rfl (lv_at hl 1 rfl) ?_
  refine g_iconst (v := 4) G dX6_isAllowed_1 rfl ?_
  obtain ⟨j55, hj55, hf⟩ := jn_open hf
  have J55 : ∀ (z1 : MS) (H : Heap) (locs : List Loc), j55 z1 = some (r, z') → MI D o ad H0 z1 H locs → ∀ ls : Array Slot, lv_has ls 2 [] → Z H locs 0 0 (F0 m 55 ls []) := by
    intro z1 H locs hf hM ls hl
    rw [hj55] at hf
    refine g_iconst (v := 1) G dX6_isAllowed_55 rfl ?_
    refine g_goto (tgt := 60) G dX6_isAllowed_56 rfl ?_
    exact m_zret X hM hf dX6_isAllowed_60
  refine g_icmp_lt (tgt := 55) G dX6_isAllowed_2 rfl (fun c1 => ?_) (fun c1 => ?_)
  · have hf := it_pos c1 hf
    exact J55 _ _ _ hf hM ls (lv_sub hl [] rfl)
  · have hf := it_neg c1 hf
    refine g_aload_n G dX6_isAllowed_5 rfl (lv_at hl 0 rfl) ?_
    refine mg_i X hM mf_52 dX6_isAllowed_6 ?_
    obtain ⟨j59, hj59, hf⟩ := jn_open hf
    have J59 : ∀ (z2 : MS) (H : Heap) (locs : List Loc), j59 z2 = some (r, z') → MI D o ad H0 z2 H locs → ∀ ls : Array Slot, lv_has ls 2 [] → Z H locs 0 0 (F0 m 59 ls []) := by
      intro z2 H locs hf hM ls hl
      rw [hj59] at hf
      refine g_iconst (v := 0) G dX6_isAllowed_59 rfl ?_
      exact m_zret X hM hf dX6_isAllowed_60
    refine g_if_ne (tgt := 21) G dX6_isAllowed_9 rfl (fun c2 => ?_) (fun c2 => ?_)
    · have hf := it_neg c2 hf
      refine g_aload_n G dX6_isAllowed_21 rfl (lv_at hl 0 rfl) ?_
      refine mg_i X hM mf_52 dX6_isAllowed_22 ?_
      refine g_iconst (v := 1) G dX6_isAllowed_25 rfl ?_
      refine g_icmp_ne (tgt := 44) G dX6_isAllowed_26 rfl (fun c3 => ?_) (fun c3 => ?_)
      · have hf := it_neg c3 hf
        refine g_iload_n G dX6_isAllowed_44 rfl (lv_at hl 1 rfl) ?_
        refine g_iconst (v := 4) G dX6_isAllowed_45 rfl ?_
        refine g_icmp_eq (tgt := 55) G dX6_isAllowed_46 rfl (fun c4 => ?_) (fun c4 => ?_)
        · have hf := it_pos c4 hf
          exact J55 _ _ _ hf hM ls (lv_sub hl [] rfl)
        · have hf := it_neg c4 hf
          refine g_iload_n G dX6_isAllowed_49 rfl (lv_at hl 1 rfl) ?_
          refine g_bipush (v := 6) G dX6_isAllowed_50 rfl ?_
          refine g_icmp_le (tgt := 59) G dX6_isAllowed_52 rfl (fun c5 => ?_) (fun c5 => ?_)
          · have hf := it_pos c5 hf
            exact J59 _ _ _ hf hM ls (lv_sub hl [] rfl)
          · have hf := it_neg c5 hf
            exact J55 _ _ _ hf hM ls (lv_sub hl [] rfl)
      · have hf := it_pos c3 hf
        refine g_iload_n G dX6_isAllowed_29 rfl (lv_at hl 1 rfl) ?_
        refine g_bipush (v := 7) G dX6_isAllowed_30 rfl ?_
        refine g_icmp_eq (tgt := 55) G dX6_isAllowed_32 rfl (fun c6 => ?_) (fun c6 => ?_)
        · have hf := it_pos c6 hf
          exact J55 _ _ _ hf hM ls (lv_sub hl [] rfl)
        · have hf := it_neg c6 hf
          refine g_iload_n G dX6_isAllowed_35 rfl (lv_at hl 1 rfl) ?_
          refine g_bipush (v := 8) G dX6_isAllowed_36 rfl ?_
          refine g_icmp_ne (tgt := 59) G dX6_isAllowed_38 rfl (fun c7 => ?_) (fun c7 => ?_)
          · have hf := it_neg c7 hf
            exact J59 _ _ _ hf hM ls (lv_sub hl [] rfl)
          · have hf := it_pos c7 hf
            refine g_goto (tgt := 55) G dX6_isAllowed_41 rfl ?_
            exact J55 _ _ _ hf hM ls (lv_sub hl [] rfl)
    · have hf := it_pos c2 hf
      refine g_iload_n G dX6_isAllowed_12 rfl (lv_at hl 1 rfl) ?_
      refine g_bipush (v := 7) G dX6_isAllowed_13 rfl ?_
      refine g_icmp_ge (tgt := 59) G dX6_isAllowed_15 rfl (fun c8 => ?_) (fun c8 => ?_)
      · have hf := it_pos c8 hf
        exact J59 _ _ _ hf hM ls (lv_sub hl [] rfl)
      · have hf := it_neg c8 hf
        refine g_goto (tgt := 55) G dX6_isAllowed_18 rfl ?_
        exact J55 _ _ _ hf hM ls (lv_sub hl [] rfl)
theorem mc_isFull : mcV yX6_isFull cX6_isFull 4 (some .boolean) 3 323 := ⟨lw_V q1979 q1981 qs61 q157 q1982, ⟨rfl, by decide +kernel, by decide +kernel, by decide +kernel⟩, Nat.le_of_ble_eq_true rfl⟩
noncomputable def m_isFull (a1 : Int32) (a2 : Int32) (a3 : Int32) (z : MS) : Option (Bool × MS) :=
  jn (fun (z1 : MS) =>
    if (mI z1 5) = 0 then
      some (false, z1)
    else
      some (true, z1)) fun j23 =>
  if (mI z 5) = 0 then
    ck (inb a1 (mN 39)) <|
    if (mA z 39 (Int32.toNatClampNeg a1)) = a2 then
      bnv (m_fail 5 a3 z) fun z2 =>
      j23 z2
    else
      j23 z
  else
    j23 z
set_option maxHeartbeats 1000000 in
theorem c_isFull {l : Launch} {D : MD} {o : Nat} {ad : Nat → Nat} {a1 : Int32} {a2 : Int32} {a3 : Int32} {z z' : MS} {r : Bool} (hf : m_isFull a1 a2 a3 z = some (r, z')) : MMet l D o ad yX6_isFull cX6_isFull 4 (some .boolean) 2 [.ref o, .int a1, .int a2, .int a3] z z' (some (.int (bI r))) := by
  unfold m_isFull at hf
  refine m_head pnX6 rfl (Nat.le_of_ble_eq_true rfl) (fun m Z H0 ls X hM hl => ?_)
  have G := X.g
  have hl : lv_has ls 4 [(0, .ref o), (1, .int a1), (2, .int a2), (3, .int a3)] := hl
  refine g_aload_n G dX6_isFull_0 rfl (lv_at hl 0 rfl) ?_
  refine mg_i X hM mf_5 dX6_isFull_1 ?_
  obtain ⟨j23, hj23, hf⟩ := jn_open hf
  have J23 : ∀ (z1 : MS) (H : Heap) (locs : List Loc), j23 z1 = some (r, z') → MI D o ad H0 z1 H locs → ∀ ls : Array Slot, lv_has ls 4 [(0, .ref o)] → Z H locs 0 0 (F0 m 23 ls []) := by
    intro z1 H locs hf hM ls hl
    rw [hj23] at hf
    refine g_aload_n G dX6_isFull_23 rfl (lv_at hl 0 rfl) ?_
    refine mg_i X hM mf_5 dX6_isFull_24 ?_
    refine g_if_eq (tgt := 34) G dX6_isFull_27 rfl (fun c1 => ?_) (fun c1 => ?_)
    · have hf := it_pos c1 hf
      refine g_iconst (v := 0) G dX6_isFull_34 rfl ?_
      exact m_zret X hM hf dX6_isFull_35
    · have hf := it_neg c1 hf
      refine g_iconst (v := 1) G dX6_isFull_30 rfl ?_
      refine g_goto (tgt := 35) G dX6_isFull_31 rfl ?_
      exact m_zret X hM hf dX6_isFull_35
  refine g_if_ne (tgt := 23) G dX6_isFull_4 rfl (fun c2 => ?_) (fun c2 => ?_)
  · have hf := it_neg c2 hf
    exact J23 _ _ _ hf hM ls (lv_sub hl [0] rfl)
  · have hf := it_pos c2 hf
    refine g_aload_n G dX6_isFull_7 rfl (lv_at hl 0 rfl) ?_
    refine mg_a X hM mf_39 dX6_isFull_8 ?_
    refine g_iload_n G dX6_isFull_11 rfl (lv_at hl 1 rfl) ?_
    obtain ⟨b1, hf⟩ := ck_open hf
    refine m_iald X hM (mIs.of mf_39) b1 dX6_isFull_12 ?_
    refine g_iload_n G dX6_isFull_13 rfl (lv_at hl 2 rfl) ?_
    refine g_icmp_ne (tgt := 23) G dX6_isFull_14 rfl (fun c3 => ?_) (fun c3 => ?_)
    · have hf := it_neg c3 hf
      exact J23 _ _ _ hf hM ls (lv_sub hl [0] rfl)
    · have hf := it_pos c3 hf
      refine g_aload_n G dX6_isFull_17 rfl (lv_at hl 0 rfl) ?_
      refine g_iconst (v := 5) G dX6_isFull_18 rfl ?_
      refine g_iload_n G dX6_isFull_19 rfl (lv_at hl 3 rfl) ?_
      obtain ⟨z2, h1, hf⟩ := bnv_open hf
      refine m_callVv (As := [.int 5, .int a3]) (rest := []) X hM hl mc_fail (c_fail h1) rfl (Nat.le_of_ble_eq_true rfl) (Nat.le_of_ble_eq_true rfl) rfl dX6_isFull_20 (fun H locs hM => ?_)
      exact J23 _ _ _ hf hM ls (lv_sub hl [0] rfl)
theorem mc_nameOf : mcV yX6_nameOf cX6_nameOf 5 (some .int) 2 319 := ⟨lw_V q1997 q1999 qs65 q157 q2000, ⟨rfl, by decide +kernel, by decide +kernel, by decide +kernel⟩, Nat.le_of_ble_eq_true rfl⟩
noncomputable def m_nameOf_L3 (a1 : Int32) (a2 : Int64) (s3 : Int32 → MS → Option (Int32 × MS)) (x1 : Int32) (z1 : MS) : Option (Int32 × MS) :=
  ck (inb a1 (mN 39)) <|
  if (mA z1 39 (Int32.toNatClampNeg a1)) ≤ x1 then
    some ((-1), z1)
  else
    ck (inb ((8 * a1) + x1) (mN 40)) <|
    if (mB z1 40 (Int32.toNatClampNeg ((8 * a1) + x1))) = a2 then
      some (x1, z1)
    else
      s3 (x1 + 1) z1
noncomputable def m_nameOf (a1 : Int32) (a2 : Int64) (z : MS) : Option (Int32 × MS) :=
  fx (m_nameOf_L3 a1 a2) (fun _ _ => none) FU 0 z
set_option maxHeartbeats 1000000 in
theorem c_nameOf {l : Launch} {D : MD} {o : Nat} {ad : Nat → Nat} {a1 : Int32} {a2 : Int64} {z z' : MS} {r : Int32} (hf : m_nameOf a1 a2 z = some (r, z')) : MMet l D o ad yX6_nameOf cX6_nameOf 5 (some .int) 1 [.ref o, .int a1, .long a2] z z' (some (.int r)) := by
  unfold m_nameOf at hf
  refine m_head pnX6 rfl (Nat.le_of_ble_eq_true rfl) (fun m Z H0 ls X hM hl => ?_)
  have G := X.g
  have hl : lv_has ls 5 [(0, .ref o), (1, .int a1), (2, .long a2)] := hl
  refine g_iconst (v := 0) G dX6_nameOf_0 rfl ?_
  refine g_istore (lv' := [(4, .int 0), (0, .ref o), (1, .int a1), (2, .long a2)]) G dX6_nameOf_1 hl (Nat.le_of_ble_eq_true rfl) rfl (fun ls hl => ?_)
  have L3 : ∀ (n : Nat) (x1 : Int32) (z1 : MS) (H : Heap) (locs : List Loc), fx (m_nameOf_L3 a1 a2) (fun _ _ => none) n x1 z1 = some (r, z') → MI D o ad H0 z1 H locs → ∀ ls : Array Slot, lv_has ls 5 [(0, .ref o), (1, .int a1), (2, .long a2), (4, .int x1)] → Z H locs 0 0 (F0 m 3 ls []) := by
    intro n
    induction n with
    | zero => intro x1 z1 H locs hf; exact absurd hf (by intro q; cases q)
    | succ n ih3 =>
      intro x1 z1 H locs hf hM ls hl
      rw [fx_s] at hf
      generalize fx (m_nameOf_L3 a1 a2) (fun _ _ => none) n = s3 at hf ih3
      unfold m_nameOf_L3 at hf
      refine g_iload G dX6_nameOf_3 (lv_at hl 3 rfl) ?_
      refine g_aload_n G dX6_nameOf_5 rfl (lv_at hl 0 rfl) ?_
      refine mg_a X hM mf_39 dX6_nameOf_6 ?_
      refine g_iload_n G dX6_nameOf_9 rfl (lv_at hl 1 rfl) ?_
      obtain ⟨b1, hf⟩ := ck_open hf
      refine m_iald X hM (mIs.of mf_39) b1 dX6_nameOf_10 ?_
      refine g_icmp_ge (tgt := 40) G dX6_nameOf_11 rfl (fun c1 => ?_) (fun c1 => ?_)
      · have hf := it_pos c1 hf
        refine g_iconst (v := (-1)) G dX6_nameOf_40 rfl ?_
        exact m_iret X hM hf dX6_nameOf_41
      · have hf := it_neg c1 hf
        refine g_aload_n G dX6_nameOf_14 rfl (lv_at hl 0 rfl) ?_
        refine mg_a X hM mf_40 dX6_nameOf_15 ?_
        refine g_bipush (v := 8) G dX6_nameOf_18 rfl ?_
        refine g_iload_n G dX6_nameOf_20 rfl (lv_at hl 1 rfl) ?_
        refine g_imul G dX6_nameOf_21 ?_
        refine g_iload G dX6_nameOf_22 (lv_at hl 3 rfl) ?_
        refine g_iadd G dX6_nameOf_24 ?_
        obtain ⟨b2, hf⟩ := ck_open hf
        refine m_lald X hM (mIs.of mf_40) b2 dX6_nameOf_25 ?_
        refine g_lload_n G dX6_nameOf_26 rfl (lv_at hl 2 rfl) ?_
        refine g_lc_ne (tgt := 34) G dX6_nameOf_27 dX6_nameOf_28 rfl (fun c2 => ?_) (fun c2 => ?_)
        · have hf := it_neg c2 hf
          refine g_iinc (v := x1 + 1) (lv' := [(4, .int (x1 + 1)), (0, .ref o), (1, .int a1), (2, .long a2)]) G dX6_nameOf_34 hl (k := 3) rfl rfl (Nat.le_of_ble_eq_true rfl) rfl (fun ls hl => ?_)
          refine g_goto (tgt := 3) G dX6_nameOf_37 rfl ?_
          exact ih3 _ _ _ _ hf hM ls (lv_sub hl [1, 2, 3, 0] rfl)
        · have hf := it_pos c2 hf
          refine g_iload G dX6_nameOf_31 (lv_at hl 3 rfl) ?_
          exact m_iret X hM hf dX6_nameOf_33
  exact L3 FU _ _ _ _ hf hM ls (lv_sub hl [1, 2, 3, 0] rfl)
theorem mc_newName : mcV yX6_newName cX6_newName 4 (some .long) 0 327 := ⟨lw_V q1983 q1985 qs62 q157 q1986, ⟨rfl, by decide +kernel, by decide +kernel, by decide +kernel⟩, Nat.le_of_ble_eq_true rfl⟩
noncomputable def m_newName_L7 (r1 : Int64) (s7 : Int32 → MS → Option (Int64 × MS)) (x1 : Int32) (z2 : MS) : Option (Int64 × MS) :=
  if 2 ≤ x1 then
    some (r1, z2)
  else
    jn (fun (z3 : MS) =>
      s7 (x1 + 1) z3) fun j38 =>
    if (mI z2 5) = 0 then
      bnd (m_nameOf x1 r1 z2) fun r2 z4 =>
      if r2 = (-1) then
        j38 z4
      else
        bnv (m_fail 3 (mI z4 38) z4) fun z5 =>
        j38 z5
    else
      j38 z2
noncomputable def m_newName (z : MS) : Option (Int64 × MS) :=
  bnd (m_name z) fun r1 z1 =>
  fx (m_newName_L7 r1) (fun _ _ => none) FU 0 z1
set_option maxHeartbeats 1000000 in
theorem c_newName {l : Launch} {D : MD} {o : Nat} {ad : Nat → Nat} {z z' : MS} {r : Int64} (hf : m_newName z = some (r, z')) : MMet l D o ad yX6_newName cX6_newName 4 (some .long) 5 [.ref o] z z' (some (.long r)) := by
  unfold m_newName at hf
  refine m_head pnX6 rfl (Nat.le_of_ble_eq_true rfl) (fun m Z H0 ls X hM hl => ?_)
  have G := X.g
  have hl : lv_has ls 4 [(0, .ref o)] := hl
  refine g_aload_n G dX6_newName_0 rfl (lv_at hl 0 rfl) ?_
  obtain ⟨r1, z1, h1, hf⟩ := bnd_open hf
  refine m_callVi (As := []) (rest := []) X hM hl mc_name (c_name h1) rfl (Nat.le_of_ble_eq_true rfl) (Nat.le_of_ble_eq_true rfl) rfl dX6_newName_1 (fun H locs hM => ?_)
  refine g_lstore_n (lv' := [(1, .long r1), (0, .ref o)]) G dX6_newName_4 rfl hl (Nat.le_of_ble_eq_true rfl) rfl (fun ls hl => ?_)
  refine g_iconst (v := 0) G dX6_newName_5 rfl ?_
  refine g_istore_n (lv' := [(3, .int 0), (1, .long r1), (0, .ref o)]) G dX6_newName_6 rfl hl (Nat.le_of_ble_eq_true rfl) rfl (fun ls hl => ?_)
  have L7 : ∀ (n : Nat) (x1 : Int32) (z2 : MS) (H : Heap) (locs : List Loc), fx (m_newName_L7 r1) (fun _ _ => none) n x1 z2 = some (r, z') → MI D o ad H0 z2 H locs → ∀ ls : Array Slot, lv_has ls 4 [(0, .ref o), (1, .long r1), (3, .int x1)] → Z H locs 0 0 (F0 m 7 ls []) := by
    intro n
    induction n with
    | zero => intro x1 z2 H locs hf; exact absurd hf (by intro q; cases q)
    | succ n ih7 =>
      intro x1 z2 H locs hf hM ls hl
      rw [fx_s] at hf
      generalize fx (m_newName_L7 r1) (fun _ _ => none) n = s7 at hf ih7
      unfold m_newName_L7 at hf
      refine g_iload_n G dX6_newName_7 rfl (lv_at hl 2 rfl) ?_
      refine g_iconst (v := 2) G dX6_newName_8 rfl ?_
      refine g_icmp_ge (tgt := 44) G dX6_newName_9 rfl (fun c1 => ?_) (fun c1 => ?_)
      · have hf := it_pos c1 hf
        refine g_lload_n G dX6_newName_44 rfl (lv_at hl 1 rfl) ?_
        exact m_lret X hM hf dX6_newName_45
      · have hf := it_neg c1 hf
        refine g_aload_n G dX6_newName_12 rfl (lv_at hl 0 rfl) ?_
        refine mg_i X hM mf_5 dX6_newName_13 ?_
        obtain ⟨j38, hj38, hf⟩ := jn_open hf
        have J38 : ∀ (z3 : MS) (H : Heap) (locs : List Loc), j38 z3 = some (r, z') → MI D o ad H0 z3 H locs → ∀ ls : Array Slot, lv_has ls 4 [(0, .ref o), (1, .long r1), (3, .int x1)] → Z H locs 0 0 (F0 m 38 ls []) := by
          intro z3 H locs hf hM ls hl
          rw [hj38] at hf
          refine g_iinc (v := x1 + 1) (lv' := [(3, .int (x1 + 1)), (0, .ref o), (1, .long r1)]) G dX6_newName_38 hl (k := 2) rfl rfl (Nat.le_of_ble_eq_true rfl) rfl (fun ls hl => ?_)
          refine g_goto (tgt := 7) G dX6_newName_41 rfl ?_
          exact ih7 _ _ _ _ hf hM ls (lv_sub hl [1, 2, 0] rfl)
        refine g_if_ne (tgt := 38) G dX6_newName_16 rfl (fun c2 => ?_) (fun c2 => ?_)
        · have hf := it_neg c2 hf
          exact J38 _ _ _ hf hM ls (lv_sub hl [0, 1, 2] rfl)
        · have hf := it_pos c2 hf
          refine g_aload_n G dX6_newName_19 rfl (lv_at hl 0 rfl) ?_
          refine g_iload_n G dX6_newName_20 rfl (lv_at hl 2 rfl) ?_
          refine g_lload_n G dX6_newName_21 rfl (lv_at hl 1 rfl) ?_
          obtain ⟨r2, z4, h2, hf⟩ := bnd_open hf
          refine m_callVi (As := [.int x1, .long r1]) (rest := []) X hM hl mc_nameOf (c_nameOf h2) rfl (Nat.le_of_ble_eq_true rfl) (Nat.le_of_ble_eq_true rfl) rfl dX6_newName_22 (fun H locs hM => ?_)
          refine g_iconst (v := (-1)) G dX6_newName_25 rfl ?_
          refine g_icmp_eq (tgt := 38) G dX6_newName_26 rfl (fun c3 => ?_) (fun c3 => ?_)
          · have hf := it_pos c3 hf
            exact J38 _ _ _ hf hM ls (lv_sub hl [0, 1, 2] rfl)
          · have hf := it_neg c3 hf
            refine g_aload_n G dX6_newName_29 rfl (lv_at hl 0 rfl) ?_
            refine g_iconst (v := 3) G dX6_newName_30 rfl ?_
            refine g_aload_n G dX6_newName_31 rfl (lv_at hl 0 rfl) ?_
            refine mg_i X hM mf_38 dX6_newName_32 ?_
            obtain ⟨z5, h3, hf⟩ := bnv_open hf
            refine m_callVv (As := [.int 3, .int (mI z4 38)]) (rest := []) X hM hl mc_fail (c_fail h3) rfl (Nat.le_of_ble_eq_true rfl) (Nat.le_of_ble_eq_true rfl) rfl dX6_newName_35 (fun H locs hM => ?_)
            exact J38 _ _ _ hf hM ls (lv_sub hl [0, 1, 2] rfl)
  exact L7 FU _ _ _ _ hf hM ls (lv_sub hl [2, 1, 0] rfl)
theorem mc_oneOf : mcV yX6_oneOf cX6_oneOf 5 (some .int) 1 338 := ⟨lw_V q2023 q2025 qs70 q157 q2026, ⟨rfl, by decide +kernel, by decide +kernel, by decide +kernel⟩, Nat.le_of_ble_eq_true rfl⟩
noncomputable def m_oneOf (a1 : Int32) (z : MS) : Option (Int32 × MS) :=
  bnd (m_name z) fun r1 z1 =>
  bnd (m_nameOf a1 r1 z1) fun r2 z2 =>
  jn (fun (z3 : MS) =>
    if (mI z3 5) = 0 then
      some (r2, z3)
    else
      some (0, z3)) fun j35 =>
  if (mI z2 5) = 0 then
    if r2 = (-1) then
      bnv (m_fail 3 (mI z2 38) z2) fun z4 =>
      j35 z4
    else
      j35 z2
  else
    j35 z2
set_option maxHeartbeats 1000000 in
theorem c_oneOf {l : Launch} {D : MD} {o : Nat} {ad : Nat → Nat} {a1 : Int32} {z z' : MS} {r : Int32} (hf : m_oneOf a1 z = some (r, z')) : MMet l D o ad yX6_oneOf cX6_oneOf 5 (some .int) 5 [.ref o, .int a1] z z' (some (.int r)) := by
  unfold m_oneOf at hf
  refine m_head pnX6 rfl (Nat.le_of_ble_eq_true rfl) (fun m Z H0 ls X hM hl => ?_)
  have G := X.g
  have hl : lv_has ls 5 [(0, .ref o), (1, .int a1)] := hl
  refine g_aload_n G dX6_oneOf_0 rfl (lv_at hl 0 rfl) ?_
  obtain ⟨r1, z1, h1, hf⟩ := bnd_open hf
  refine m_callVi (As := []) (rest := []) X hM hl mc_name (c_name h1) rfl (Nat.le_of_ble_eq_true rfl) (Nat.le_of_ble_eq_true rfl) rfl dX6_oneOf_1 (fun H locs hM => ?_)
  refine g_lstore_n (lv' := [(2, .long r1), (0, .ref o), (1, .int a1)]) G dX6_oneOf_4 rfl hl (Nat.le_of_ble_eq_true rfl) rfl (fun ls hl => ?_)
  refine g_aload_n G dX6_oneOf_5 rfl (lv_at hl 1 rfl) ?_
  refine g_iload_n G dX6_oneOf_6 rfl (lv_at hl 2 rfl) ?_
  refine g_lload_n G dX6_oneOf_7 rfl (lv_at hl 0 rfl) ?_
  obtain ⟨r2, z2, h2, hf⟩ := bnd_open hf
  refine m_callVi (As := [.int a1, .long r1]) (rest := []) X hM hl mc_nameOf (c_nameOf h2) rfl (Nat.le_of_ble_eq_true rfl) (Nat.le_of_ble_eq_true rfl) rfl dX6_oneOf_8 (fun H locs hM => ?_)
  refine g_istore (lv' := [(4, .int r2), (2, .long r1), (0, .ref o), (1, .int a1)]) G dX6_oneOf_11 hl (Nat.le_of_ble_eq_true rfl) rfl (fun ls hl => ?_)
  refine g_aload_n G dX6_oneOf_13 rfl (lv_at hl 2 rfl) ?_
  refine mg_i X hM mf_5 dX6_oneOf_14 ?_
  obtain ⟨j35, hj35, hf⟩ := jn_open hf
  have J35 : ∀ (z3 : MS) (H : Heap) (locs : List Loc), j35 z3 = some (r, z') → MI D o ad H0 z3 H locs → ∀ ls : Array Slot, lv_has ls 5 [(0, .ref o), (4, .int r2)] → Z H locs 0 0 (F0 m 35 ls []) := by
    intro z3 H locs hf hM ls hl
    rw [hj35] at hf
    refine g_aload_n G dX6_oneOf_35 rfl (lv_at hl 0 rfl) ?_
    refine mg_i X hM mf_5 dX6_oneOf_36 ?_
    refine g_if_ne (tgt := 47) G dX6_oneOf_39 rfl (fun c1 => ?_) (fun c1 => ?_)
    · have hf := it_neg c1 hf
      refine g_iconst (v := 0) G dX6_oneOf_47 rfl ?_
      exact m_iret X hM hf dX6_oneOf_48
    · have hf := it_pos c1 hf
      refine g_iload G dX6_oneOf_42 (lv_at hl 1 rfl) ?_
      refine g_goto (tgt := 48) G dX6_oneOf_44 rfl ?_
      exact m_iret X hM hf dX6_oneOf_48
  refine g_if_ne (tgt := 35) G dX6_oneOf_17 rfl (fun c2 => ?_) (fun c2 => ?_)
  · have hf := it_neg c2 hf
    exact J35 _ _ _ hf hM ls (lv_sub hl [2, 0] rfl)
  · have hf := it_pos c2 hf
    refine g_iload G dX6_oneOf_20 (lv_at hl 0 rfl) ?_
    refine g_iconst (v := (-1)) G dX6_oneOf_22 rfl ?_
    refine g_icmp_ne (tgt := 35) G dX6_oneOf_23 rfl (fun c3 => ?_) (fun c3 => ?_)
    · have hf := it_neg c3 hf
      exact J35 _ _ _ hf hM ls (lv_sub hl [2, 0] rfl)
    · have hf := it_pos c3 hf
      refine g_aload_n G dX6_oneOf_26 rfl (lv_at hl 2 rfl) ?_
      refine g_iconst (v := 3) G dX6_oneOf_27 rfl ?_
      refine g_aload_n G dX6_oneOf_28 rfl (lv_at hl 2 rfl) ?_
      refine mg_i X hM mf_38 dX6_oneOf_29 ?_
      obtain ⟨z4, h3, hf⟩ := bnv_open hf
      refine m_callVv (As := [.int 3, .int (mI z2 38)]) (rest := []) X hM hl mc_fail (c_fail h3) rfl (Nat.le_of_ble_eq_true rfl) (Nat.le_of_ble_eq_true rfl) rfl dX6_oneOf_32 (fun H locs hM => ?_)
      exact J35 _ _ _ hf hM ls (lv_sub hl [2, 0] rfl)
theorem mc_factTold : mcV yX6_factTold cX6_factTold 5 (none) 1 363 := ⟨lw_V q1975 q1977 qs60 q157 q1978, ⟨rfl, by decide +kernel, by decide +kernel, by decide +kernel⟩, Nat.le_of_ble_eq_true rfl⟩
noncomputable def m_factTold (a1 : Int32) (z : MS) : Option (MS) :=
  bnd (m_isFull 0 8 a1 z) fun r1 z1 =>
  if (bI r1) = 0 then
    bnd (m_newName z1) fun r2 z2 =>
    bnv (m_asks 11 z2) fun z3 =>
    bnd (m_number 1 9 z3) fun r3 z4 =>
    if (mI z4 5) = 0 then
      ck (inb (mA z4 39 (Int32.toNatClampNeg 0)) (mN 40)) <|
      nm (wB z4 40 (Int32.toNatClampNeg (mA z4 39 (Int32.toNatClampNeg 0))) r2) fun z5 =>
      ck (inb (mA z5 39 (Int32.toNatClampNeg 0)) (mN 41)) <|
      nm (wA z5 41 (Int32.toNatClampNeg (mA z5 39 (Int32.toNatClampNeg 0))) r3) fun z6 =>
      nm (wA z6 39 (Int32.toNatClampNeg 0) ((mA z6 39 (Int32.toNatClampNeg 0)) + 1)) fun z7 =>
      some z7
    else
      some z4
  else
    some z1
set_option maxHeartbeats 1000000 in
theorem c_factTold {l : Launch} {D : MD} {o : Nat} {ad : Nat → Nat} {a1 : Int32} {z z' : MS} (hf : m_factTold a1 z = some z') : MMet l D o ad yX6_factTold cX6_factTold 5 (none) 6 [.ref o, .int a1] z z' (none) := by
  unfold m_factTold at hf
  refine m_head pnX6 rfl (Nat.le_of_ble_eq_true rfl) (fun m Z H0 ls X hM hl => ?_)
  have G := X.g
  have hl : lv_has ls 5 [(0, .ref o), (1, .int a1)] := hl
  refine g_aload_n G dX6_factTold_0 rfl (lv_at hl 0 rfl) ?_
  refine g_iconst (v := 0) G dX6_factTold_1 rfl ?_
  refine g_bipush (v := 8) G dX6_factTold_2 rfl ?_
  refine g_iload_n G dX6_factTold_4 rfl (lv_at hl 1 rfl) ?_
  obtain ⟨r1, z1, h1, hf⟩ := bnd_open hf
  refine m_callVi (As := [.int 0, .int 8, .int a1]) (rest := []) X hM hl mc_isFull (c_isFull h1) rfl (Nat.le_of_ble_eq_true rfl) (Nat.le_of_ble_eq_true rfl) rfl dX6_factTold_5 (fun H locs hM => ?_)
  refine g_if_eq (tgt := 12) G dX6_factTold_8 rfl (fun c1 => ?_) (fun c1 => ?_)
  · have hf := it_pos c1 hf
    refine g_aload_n G dX6_factTold_12 rfl (lv_at hl 0 rfl) ?_
    obtain ⟨r2, z2, h2, hf⟩ := bnd_open hf
    refine m_callVi (As := []) (rest := []) X hM hl mc_newName (c_newName h2) rfl (Nat.le_of_ble_eq_true rfl) (Nat.le_of_ble_eq_true rfl) rfl dX6_factTold_13 (fun H locs hM => ?_)
    refine g_lstore_n (lv' := [(2, .long r2), (0, .ref o), (1, .int a1)]) G dX6_factTold_16 rfl hl (Nat.le_of_ble_eq_true rfl) rfl (fun ls hl => ?_)
    refine g_aload_n G dX6_factTold_17 rfl (lv_at hl 1 rfl) ?_
    refine g_aload_n G dX6_factTold_18 rfl (lv_at hl 1 rfl) ?_
    refine mg_a X hM mf_11 dX6_factTold_19 ?_
    obtain ⟨z3, h3, hf⟩ := bnv_open hf
    refine m_callVv (As := [.ref (ad 11)]) (rest := []) X hM hl mc_asks (c_asks (mIs.of mf_11) h3) rfl (Nat.le_of_ble_eq_true rfl) (Nat.le_of_ble_eq_true rfl) rfl dX6_factTold_22 (fun H locs hM => ?_)
    refine g_aload_n G dX6_factTold_25 rfl (lv_at hl 1 rfl) ?_
    refine g_iconst (v := 1) G dX6_factTold_26 rfl ?_
    refine g_bipush (v := 9) G dX6_factTold_27 rfl ?_
    obtain ⟨r3, z4, h4, hf⟩ := bnd_open hf
    refine m_callVi (As := [.int 1, .int 9]) (rest := []) X hM hl mc_number (c_number h4) rfl (Nat.le_of_ble_eq_true rfl) (Nat.le_of_ble_eq_true rfl) rfl dX6_factTold_29 (fun H locs hM => ?_)
    refine g_istore (lv' := [(4, .int r3), (2, .long r2), (0, .ref o), (1, .int a1)]) G dX6_factTold_32 hl (Nat.le_of_ble_eq_true rfl) rfl (fun ls hl => ?_)
    refine g_aload_n G dX6_factTold_34 rfl (lv_at hl 2 rfl) ?_
    refine mg_i X hM mf_5 dX6_factTold_35 ?_
    refine g_if_eq (tgt := 42) G dX6_factTold_38 rfl (fun c2 => ?_) (fun c2 => ?_)
    · have hf := it_pos c2 hf
      refine g_aload_n G dX6_factTold_42 rfl (lv_at hl 2 rfl) ?_
      refine mg_a X hM mf_40 dX6_factTold_43 ?_
      refine g_aload_n G dX6_factTold_46 rfl (lv_at hl 2 rfl) ?_
      refine mg_a X hM mf_39 dX6_factTold_47 ?_
      refine g_iconst (v := 0) G dX6_factTold_50 rfl ?_
      refine m_iald X hM (mIs.of mf_39) (by decide) dX6_factTold_51 ?_
      refine g_lload_n G dX6_factTold_52 rfl (lv_at hl 1 rfl) ?_
      obtain ⟨b1, hf⟩ := ck_open hf
      obtain ⟨z5, hz5, hf⟩ := nm_open hf
      refine m_last X hM (mIs.of mf_40) b1 hz5 dX6_factTold_53 (fun H locs hM => ?_)
      refine g_aload_n G dX6_factTold_54 rfl (lv_at hl 2 rfl) ?_
      refine mg_a X hM mf_41 dX6_factTold_55 ?_
      refine g_aload_n G dX6_factTold_58 rfl (lv_at hl 2 rfl) ?_
      refine mg_a X hM mf_39 dX6_factTold_59 ?_
      refine g_iconst (v := 0) G dX6_factTold_62 rfl ?_
      refine m_iald X hM (mIs.of mf_39) (by decide) dX6_factTold_63 ?_
      refine g_iload G dX6_factTold_64 (lv_at hl 0 rfl) ?_
      obtain ⟨b2, hf⟩ := ck_open hf
      obtain ⟨z6, hz6, hf⟩ := nm_open hf
      refine m_iast X hM (mIs.of mf_41) b2 hz6 dX6_factTold_66 (fun H locs hM => ?_)
      refine g_aload_n G dX6_factTold_67 rfl (lv_at hl 2 rfl) ?_
      refine mg_a X hM mf_39 dX6_factTold_68 ?_
      refine g_iconst (v := 0) G dX6_factTold_71 rfl ?_
      refine g_dup2_11 G dX6_factTold_72 rfl rfl ?_
      refine m_iald X hM (mIs.of mf_39) (by decide) dX6_factTold_73 ?_
      refine g_iconst (v := 1) G dX6_factTold_74 rfl ?_
      refine g_iadd G dX6_factTold_75 ?_
      obtain ⟨z7, hz7, hf⟩ := nm_open hf
      refine m_iast X hM (mIs.of mf_39) (by decide) hz7 dX6_factTold_76 (fun H locs hM => ?_)
      exact m_vret X hM hf dX6_factTold_77
    · have hf := it_neg c2 hf
      exact m_vret X hM hf dX6_factTold_41
  · have hf := it_neg c1 hf
    exact m_vret X hM hf dX6_factTold_11
theorem mc_personTold : mcV yX6_personTold cX6_personTold 5 (none) 1 367 := ⟨lw_V q2015 q2017 qs68 q157 q2018, ⟨rfl, by decide +kernel, by decide +kernel, by decide +kernel⟩, Nat.le_of_ble_eq_true rfl⟩
noncomputable def m_personTold (a1 : Int32) (z : MS) : Option (MS) :=
  bnd (m_isFull 1 8 a1 z) fun r1 z1 =>
  if (bI r1) = 0 then
    bnd (m_newName z1) fun r2 z2 =>
    bnv (m_asks 13 z2) fun z3 =>
    bnd (m_number 0 99 z3) fun r3 z4 =>
    if (mI z4 5) = 0 then
      ck (inb (8 + (mA z4 39 (Int32.toNatClampNeg 1))) (mN 40)) <|
      nm (wB z4 40 (Int32.toNatClampNeg (8 + (mA z4 39 (Int32.toNatClampNeg 1)))) r2) fun z5 =>
      ck (inb (mA z5 39 (Int32.toNatClampNeg 1)) (mN 42)) <|
      nm (wA z5 42 (Int32.toNatClampNeg (mA z5 39 (Int32.toNatClampNeg 1))) r3) fun z6 =>
      nm (wA z6 39 (Int32.toNatClampNeg 1) ((mA z6 39 (Int32.toNatClampNeg 1)) + 1)) fun z7 =>
      some z7
    else
      some z4
  else
    some z1
set_option maxHeartbeats 1000000 in
theorem c_personTold {l : Launch} {D : MD} {o : Nat} {ad : Nat → Nat} {a1 : Int32} {z z' : MS} (hf : m_personTold a1 z = some z') : MMet l D o ad yX6_personTold cX6_personTold 5 (none) 6 [.ref o, .int a1] z z' (none) := by
  unfold m_personTold at hf
  refine m_head pnX6 rfl (Nat.le_of_ble_eq_true rfl) (fun m Z H0 ls X hM hl => ?_)
  have G := X.g
  have hl : lv_has ls 5 [(0, .ref o), (1, .int a1)] := hl
  refine g_aload_n G dX6_personTold_0 rfl (lv_at hl 0 rfl) ?_
  refine g_iconst (v := 1) G dX6_personTold_1 rfl ?_
  refine g_bipush (v := 8) G dX6_personTold_2 rfl ?_
  refine g_iload_n G dX6_personTold_4 rfl (lv_at hl 1 rfl) ?_
  obtain ⟨r1, z1, h1, hf⟩ := bnd_open hf
  refine m_callVi (As := [.int 1, .int 8, .int a1]) (rest := []) X hM hl mc_isFull (c_isFull h1) rfl (Nat.le_of_ble_eq_true rfl) (Nat.le_of_ble_eq_true rfl) rfl dX6_personTold_5 (fun H locs hM => ?_)
  refine g_if_eq (tgt := 12) G dX6_personTold_8 rfl (fun c1 => ?_) (fun c1 => ?_)
  · have hf := it_pos c1 hf
    refine g_aload_n G dX6_personTold_12 rfl (lv_at hl 0 rfl) ?_
    obtain ⟨r2, z2, h2, hf⟩ := bnd_open hf
    refine m_callVi (As := []) (rest := []) X hM hl mc_newName (c_newName h2) rfl (Nat.le_of_ble_eq_true rfl) (Nat.le_of_ble_eq_true rfl) rfl dX6_personTold_13 (fun H locs hM => ?_)
    refine g_lstore_n (lv' := [(2, .long r2), (0, .ref o), (1, .int a1)]) G dX6_personTold_16 rfl hl (Nat.le_of_ble_eq_true rfl) rfl (fun ls hl => ?_)
    refine g_aload_n G dX6_personTold_17 rfl (lv_at hl 1 rfl) ?_
    refine g_aload_n G dX6_personTold_18 rfl (lv_at hl 1 rfl) ?_
    refine mg_a X hM mf_13 dX6_personTold_19 ?_
    obtain ⟨z3, h3, hf⟩ := bnv_open hf
    refine m_callVv (As := [.ref (ad 13)]) (rest := []) X hM hl mc_asks (c_asks (mIs.of mf_13) h3) rfl (Nat.le_of_ble_eq_true rfl) (Nat.le_of_ble_eq_true rfl) rfl dX6_personTold_22 (fun H locs hM => ?_)
    refine g_aload_n G dX6_personTold_25 rfl (lv_at hl 1 rfl) ?_
    refine g_iconst (v := 0) G dX6_personTold_26 rfl ?_
    refine g_bipush (v := 99) G dX6_personTold_27 rfl ?_
    obtain ⟨r3, z4, h4, hf⟩ := bnd_open hf
    refine m_callVi (As := [.int 0, .int 99]) (rest := []) X hM hl mc_number (c_number h4) rfl (Nat.le_of_ble_eq_true rfl) (Nat.le_of_ble_eq_true rfl) rfl dX6_personTold_29 (fun H locs hM => ?_)
    refine g_istore (lv' := [(4, .int r3), (2, .long r2), (0, .ref o), (1, .int a1)]) G dX6_personTold_32 hl (Nat.le_of_ble_eq_true rfl) rfl (fun ls hl => ?_)
    refine g_aload_n G dX6_personTold_34 rfl (lv_at hl 2 rfl) ?_
    refine mg_i X hM mf_5 dX6_personTold_35 ?_
    refine g_if_eq (tgt := 42) G dX6_personTold_38 rfl (fun c2 => ?_) (fun c2 => ?_)
    · have hf := it_pos c2 hf
      refine g_aload_n G dX6_personTold_42 rfl (lv_at hl 2 rfl) ?_
      refine mg_a X hM mf_40 dX6_personTold_43 ?_
      refine g_bipush (v := 8) G dX6_personTold_46 rfl ?_
      refine g_aload_n G dX6_personTold_48 rfl (lv_at hl 2 rfl) ?_
      refine mg_a X hM mf_39 dX6_personTold_49 ?_
      refine g_iconst (v := 1) G dX6_personTold_52 rfl ?_
      refine m_iald X hM (mIs.of mf_39) (by decide) dX6_personTold_53 ?_
      refine g_iadd G dX6_personTold_54 ?_
      refine g_lload_n G dX6_personTold_55 rfl (lv_at hl 1 rfl) ?_
      obtain ⟨b1, hf⟩ := ck_open hf
      obtain ⟨z5, hz5, hf⟩ := nm_open hf
      refine m_last X hM (mIs.of mf_40) b1 hz5 dX6_personTold_56 (fun H locs hM => ?_)
      refine g_aload_n G dX6_personTold_57 rfl (lv_at hl 2 rfl) ?_
      refine mg_a X hM mf_42 dX6_personTold_58 ?_
      refine g_aload_n G dX6_personTold_61 rfl (lv_at hl 2 rfl) ?_
      refine mg_a X hM mf_39 dX6_personTold_62 ?_
      refine g_iconst (v := 1) G dX6_personTold_65 rfl ?_
      refine m_iald X hM (mIs.of mf_39) (by decide) dX6_personTold_66 ?_
      refine g_iload G dX6_personTold_67 (lv_at hl 0 rfl) ?_
      obtain ⟨b2, hf⟩ := ck_open hf
      obtain ⟨z6, hz6, hf⟩ := nm_open hf
      refine m_iast X hM (mIs.of mf_42) b2 hz6 dX6_personTold_69 (fun H locs hM => ?_)
      refine g_aload_n G dX6_personTold_70 rfl (lv_at hl 2 rfl) ?_
      refine mg_a X hM mf_39 dX6_personTold_71 ?_
      refine g_iconst (v := 1) G dX6_personTold_74 rfl ?_
      refine g_dup2_11 G dX6_personTold_75 rfl rfl ?_
      refine m_iald X hM (mIs.of mf_39) (by decide) dX6_personTold_76 ?_
      refine g_iconst (v := 1) G dX6_personTold_77 rfl ?_
      refine g_iadd G dX6_personTold_78 ?_
      obtain ⟨z7, hz7, hf⟩ := nm_open hf
      refine m_iast X hM (mIs.of mf_39) (by decide) hz7 dX6_personTold_79 (fun H locs hM => ?_)
      exact m_vret X hM hf dX6_personTold_80
    · have hf := it_neg c2 hf
      exact m_vret X hM hf dX6_personTold_41
  · have hf := it_neg c1 hf
    exact m_vret X hM hf dX6_personTold_11
theorem mc_beliefTold : mcV yX6_beliefTold cX6_beliefTold 4 (none) 1 370 := ⟨lw_V q2019 q2021 qs69 q157 q2022, ⟨rfl, by decide +kernel, by decide +kernel, by decide +kernel⟩, Nat.le_of_ble_eq_true rfl⟩
noncomputable def m_beliefTold (a1 : Bool) (z : MS) : Option (MS) :=
  bnd (m_oneOf 1 z) fun r1 z1 =>
  bnd (m_oneOf 0 z1) fun r2 z2 =>
  jn (fun (z3 : MS) =>
    if (mI z3 5) = 0 then
      if (bI a1) = 0 then
        ck (inb r1 (mN 44)) <|
        ck (inb r1 (mN 44)) <|
        nm (wA z3 44 (Int32.toNatClampNeg r1) ((mA z3 44 (Int32.toNatClampNeg r1)) ||| (1 <<< (r2 &&& 31)))) fun z4 =>
        some z4
      else
        ck (inb r1 (mN 43)) <|
        ck (inb r1 (mN 43)) <|
        nm (wA z3 43 (Int32.toNatClampNeg r1) ((mA z3 43 (Int32.toNatClampNeg r1)) ||| (1 <<< (r2 &&& 31)))) fun z5 =>
        some z5
    else
      some z3) fun j49 =>
  if (mI z2 5) = 0 then
    ck (inb r1 (mN 43)) <|
    ck (inb r1 (mN 44)) <|
    if ((((mA z2 43 (Int32.toNatClampNeg r1)) ||| (mA z2 44 (Int32.toNatClampNeg r1))) >>> (r2 &&& 31)) &&& 1) = 1 then
      bnv (m_fail 3 (mI z2 38) z2) fun z6 =>
      j49 z6
    else
      j49 z2
  else
    j49 z2
set_option maxHeartbeats 1000000 in
theorem c_beliefTold {l : Launch} {D : MD} {o : Nat} {ad : Nat → Nat} {a1 : Bool} {z z' : MS} (hf : m_beliefTold a1 z = some z') : MMet l D o ad yX6_beliefTold cX6_beliefTold 4 (none) 6 [.ref o, .int (bI a1)] z z' (none) := by
  unfold m_beliefTold at hf
  refine m_head pnX6 rfl (Nat.le_of_ble_eq_true rfl) (fun m Z H0 ls X hM hl => ?_)
  have G := X.g
  have hl : lv_has ls 4 [(0, .ref o), (1, .int (bI a1))] := hl
  refine g_aload_n G dX6_beliefTold_0 rfl (lv_at hl 0 rfl) ?_
  refine g_iconst (v := 1) G dX6_beliefTold_1 rfl ?_
  obtain ⟨r1, z1, h1, hf⟩ := bnd_open hf
  refine m_callVi (As := [.int 1]) (rest := []) X hM hl mc_oneOf (c_oneOf h1) rfl (Nat.le_of_ble_eq_true rfl) (Nat.le_of_ble_eq_true rfl) rfl dX6_beliefTold_2 (fun H locs hM => ?_)
  refine g_istore_n (lv' := [(2, .int r1), (0, .ref o), (1, .int (bI a1))]) G dX6_beliefTold_5 rfl hl (Nat.le_of_ble_eq_true rfl) rfl (fun ls hl => ?_)
  refine g_aload_n G dX6_beliefTold_6 rfl (lv_at hl 1 rfl) ?_
  refine g_iconst (v := 0) G dX6_beliefTold_7 rfl ?_
  obtain ⟨r2, z2, h2, hf⟩ := bnd_open hf
  refine m_callVi (As := [.int 0]) (rest := []) X hM hl mc_oneOf (c_oneOf h2) rfl (Nat.le_of_ble_eq_true rfl) (Nat.le_of_ble_eq_true rfl) rfl dX6_beliefTold_8 (fun H locs hM => ?_)
  refine g_istore_n (lv' := [(3, .int r2), (2, .int r1), (0, .ref o), (1, .int (bI a1))]) G dX6_beliefTold_11 rfl hl (Nat.le_of_ble_eq_true rfl) rfl (fun ls hl => ?_)
  refine g_aload_n G dX6_beliefTold_12 rfl (lv_at hl 2 rfl) ?_
  refine mg_i X hM mf_5 dX6_beliefTold_13 ?_
  obtain ⟨j49, hj49, hf⟩ := jn_open hf
  have J49 : ∀ (z3 : MS) (H : Heap) (locs : List Loc), j49 z3 = some z' → MI D o ad H0 z3 H locs → ∀ ls : Array Slot, lv_has ls 4 [(0, .ref o), (1, .int (bI a1)), (2, .int r1), (3, .int r2)] → Z H locs 0 0 (F0 m 49 ls []) := by
    intro z3 H locs hf hM ls hl
    rw [hj49] at hf
    refine g_aload_n G dX6_beliefTold_49 rfl (lv_at hl 0 rfl) ?_
    refine mg_i X hM mf_5 dX6_beliefTold_50 ?_
    refine g_if_eq (tgt := 57) G dX6_beliefTold_53 rfl (fun c1 => ?_) (fun c1 => ?_)
    · have hf := it_pos c1 hf
      refine g_iload_n G dX6_beliefTold_57 rfl (lv_at hl 1 rfl) ?_
      refine g_if_eq (tgt := 76) G dX6_beliefTold_58 rfl (fun c2 => ?_) (fun c2 => ?_)
      · have hf := it_pos c2 hf
        refine g_aload_n G dX6_beliefTold_76 rfl (lv_at hl 0 rfl) ?_
        refine mg_a X hM mf_44 dX6_beliefTold_77 ?_
        refine g_iload_n G dX6_beliefTold_80 rfl (lv_at hl 2 rfl) ?_
        refine g_dup2_11 G dX6_beliefTold_81 rfl rfl ?_
        obtain ⟨b1, hf⟩ := ck_open hf
        refine m_iald X hM (mIs.of mf_44) b1 dX6_beliefTold_82 ?_
        refine g_iconst (v := 1) G dX6_beliefTold_83 rfl ?_
        refine g_iload_n G dX6_beliefTold_84 rfl (lv_at hl 3 rfl) ?_
        refine g_ishl G dX6_beliefTold_85 ?_
        refine g_ior G dX6_beliefTold_86 ?_
        obtain ⟨b2, hf⟩ := ck_open hf
        obtain ⟨z4, hz4, hf⟩ := nm_open hf
        refine m_iast X hM (mIs.of mf_44) b2 hz4 dX6_beliefTold_87 (fun H locs hM => ?_)
        exact m_vret X hM hf dX6_beliefTold_88
      · have hf := it_neg c2 hf
        refine g_aload_n G dX6_beliefTold_61 rfl (lv_at hl 0 rfl) ?_
        refine mg_a X hM mf_43 dX6_beliefTold_62 ?_
        refine g_iload_n G dX6_beliefTold_65 rfl (lv_at hl 2 rfl) ?_
        refine g_dup2_11 G dX6_beliefTold_66 rfl rfl ?_
        obtain ⟨b3, hf⟩ := ck_open hf
        refine m_iald X hM (mIs.of mf_43) b3 dX6_beliefTold_67 ?_
        refine g_iconst (v := 1) G dX6_beliefTold_68 rfl ?_
        refine g_iload_n G dX6_beliefTold_69 rfl (lv_at hl 3 rfl) ?_
        refine g_ishl G dX6_beliefTold_70 ?_
        refine g_ior G dX6_beliefTold_71 ?_
        obtain ⟨b4, hf⟩ := ck_open hf
        obtain ⟨z5, hz5, hf⟩ := nm_open hf
        refine m_iast X hM (mIs.of mf_43) b4 hz5 dX6_beliefTold_72 (fun H locs hM => ?_)
        refine g_goto (tgt := 88) G dX6_beliefTold_73 rfl ?_
        exact m_vret X hM hf dX6_beliefTold_88
    · have hf := it_neg c1 hf
      exact m_vret X hM hf dX6_beliefTold_56
  refine g_if_ne (tgt := 49) G dX6_beliefTold_16 rfl (fun c3 => ?_) (fun c3 => ?_)
  · have hf := it_neg c3 hf
    exact J49 _ _ _ hf hM ls (lv_sub hl [2, 3, 1, 0] rfl)
  · have hf := it_pos c3 hf
    refine g_aload_n G dX6_beliefTold_19 rfl (lv_at hl 2 rfl) ?_
    refine mg_a X hM mf_43 dX6_beliefTold_20 ?_
    refine g_iload_n G dX6_beliefTold_23 rfl (lv_at hl 1 rfl) ?_
    obtain ⟨b5, hf⟩ := ck_open hf
    refine m_iald X hM (mIs.of mf_43) b5 dX6_beliefTold_24 ?_
    refine g_aload_n G dX6_beliefTold_25 rfl (lv_at hl 2 rfl) ?_
    refine mg_a X hM mf_44 dX6_beliefTold_26 ?_
    refine g_iload_n G dX6_beliefTold_29 rfl (lv_at hl 1 rfl) ?_
    obtain ⟨b6, hf⟩ := ck_open hf
    refine m_iald X hM (mIs.of mf_44) b6 dX6_beliefTold_30 ?_
    refine g_ior G dX6_beliefTold_31 ?_
    refine g_iload_n G dX6_beliefTold_32 rfl (lv_at hl 0 rfl) ?_
    refine g_ishr G dX6_beliefTold_33 ?_
    refine g_iconst (v := 1) G dX6_beliefTold_34 rfl ?_
    refine g_iand G dX6_beliefTold_35 ?_
    refine g_iconst (v := 1) G dX6_beliefTold_36 rfl ?_
    refine g_icmp_ne (tgt := 49) G dX6_beliefTold_37 rfl (fun c4 => ?_) (fun c4 => ?_)
    · have hf := it_neg c4 hf
      exact J49 _ _ _ hf hM ls (lv_sub hl [2, 3, 1, 0] rfl)
    · have hf := it_pos c4 hf
      refine g_aload_n G dX6_beliefTold_40 rfl (lv_at hl 2 rfl) ?_
      refine g_iconst (v := 3) G dX6_beliefTold_41 rfl ?_
      refine g_aload_n G dX6_beliefTold_42 rfl (lv_at hl 2 rfl) ?_
      refine mg_i X hM mf_38 dX6_beliefTold_43 ?_
      obtain ⟨z6, h3, hf⟩ := bnv_open hf
      refine m_callVv (As := [.int 3, .int (mI z2 38)]) (rest := []) X hM hl mc_fail (c_fail h3) rfl (Nat.le_of_ble_eq_true rfl) (Nat.le_of_ble_eq_true rfl) rfl dX6_beliefTold_46 (fun H locs hM => ?_)
      exact J49 _ _ _ hf hM ls (lv_sub hl [2, 3, 1, 0] rfl)
theorem mc_taughtTold : mcV yX6_taughtTold cX6_taughtTold 4 (none) 0 374 := ⟨lw_V q2027 q2029 qs71 q157 q2030, ⟨rfl, by decide +kernel, by decide +kernel, by decide +kernel⟩, Nat.le_of_ble_eq_true rfl⟩
noncomputable def m_taughtTold_L48 (r1 : Int32) (k75 : Int32 → MS → Option (MS)) (s48 : Int32 → MS → Option (MS)) (x2 : Int32) (z9 : MS) : Option (MS) :=
  if (mI z9 5) = 0 then
    if x2 = (-1) then
      k75 x2 z9
    else
      if x2 = r1 then
        k75 x2 z9
      else
        ck (inb x2 (mN 45)) <|
        s48 (mA z9 45 (Int32.toNatClampNeg x2)) z9
  else
    k75 x2 z9
noncomputable def m_taughtTold (z : MS) : Option (MS) :=
  bnd (m_oneOf 1 z) fun r1 z1 =>
  jn (fun (z2 : MS) =>
    bnv (m_asks 17 z2) fun z3 =>
    bnd (m_oneOf 1 z3) fun r2 z4 =>
    jn (fun (x1 : Int32) (z5 : MS) =>
      jn (fun (z6 : MS) =>
        if (mI z6 5) = 0 then
          ck (inb r1 (mN 45)) <|
          nm (wA z6 45 (Int32.toNatClampNeg r1) r2) fun z7 =>
          some z7
        else
          some z6) fun j96 =>
      if (mI z5 5) = 0 then
        if x1 = r1 then
          bnv (m_fail 3 (mI z5 38) z5) fun z8 =>
          j96 z8
        else
          j96 z5
      else
        j96 z5) fun k75 =>
    fx (m_taughtTold_L48 r1 k75) (fun _ _ => none) FU r2 z4) fun j32 =>
  if (mI z1 5) = 0 then
    ck (inb r1 (mN 45)) <|
    if (mA z1 45 (Int32.toNatClampNeg r1)) = (-1) then
      j32 z1
    else
      bnv (m_fail 3 (mI z1 38) z1) fun z10 =>
      j32 z10
  else
    j32 z1
set_option maxHeartbeats 1000000 in
theorem c_taughtTold {l : Launch} {D : MD} {o : Nat} {ad : Nat → Nat} {z z' : MS} (hf : m_taughtTold z = some z') : MMet l D o ad yX6_taughtTold cX6_taughtTold 4 (none) 6 [.ref o] z z' (none) := by
  unfold m_taughtTold at hf
  refine m_head pnX6 rfl (Nat.le_of_ble_eq_true rfl) (fun m Z H0 ls X hM hl => ?_)
  have G := X.g
  have hl : lv_has ls 4 [(0, .ref o)] := hl
  refine g_aload_n G dX6_taughtTold_0 rfl (lv_at hl 0 rfl) ?_
  refine g_iconst (v := 1) G dX6_taughtTold_1 rfl ?_
  obtain ⟨r1, z1, h1, hf⟩ := bnd_open hf
  refine m_callVi (As := [.int 1]) (rest := []) X hM hl mc_oneOf (c_oneOf h1) rfl (Nat.le_of_ble_eq_true rfl) (Nat.le_of_ble_eq_true rfl) rfl dX6_taughtTold_2 (fun H locs hM => ?_)
  refine g_istore_n (lv' := [(1, .int r1), (0, .ref o)]) G dX6_taughtTold_5 rfl hl (Nat.le_of_ble_eq_true rfl) rfl (fun ls hl => ?_)
  refine g_aload_n G dX6_taughtTold_6 rfl (lv_at hl 1 rfl) ?_
  refine mg_i X hM mf_5 dX6_taughtTold_7 ?_
  obtain ⟨j32, hj32, hf⟩ := jn_open hf
  have J32 : ∀ (z2 : MS) (H : Heap) (locs : List Loc), j32 z2 = some z' → MI D o ad H0 z2 H locs → ∀ ls : Array Slot, lv_has ls 4 [(0, .ref o), (1, .int r1)] → Z H locs 0 0 (F0 m 32 ls []) := by
    intro z2 H locs hf hM ls hl
    rw [hj32] at hf
    refine g_aload_n G dX6_taughtTold_32 rfl (lv_at hl 0 rfl) ?_
    refine g_aload_n G dX6_taughtTold_33 rfl (lv_at hl 0 rfl) ?_
    refine mg_a X hM mf_17 dX6_taughtTold_34 ?_
    obtain ⟨z3, h2, hf⟩ := bnv_open hf
    refine m_callVv (As := [.ref (ad 17)]) (rest := []) X hM hl mc_asks (c_asks (mIs.of mf_17) h2) rfl (Nat.le_of_ble_eq_true rfl) (Nat.le_of_ble_eq_true rfl) rfl dX6_taughtTold_37 (fun H locs hM => ?_)
    refine g_aload_n G dX6_taughtTold_40 rfl (lv_at hl 0 rfl) ?_
    refine g_iconst (v := 1) G dX6_taughtTold_41 rfl ?_
    obtain ⟨r2, z4, h3, hf⟩ := bnd_open hf
    refine m_callVi (As := [.int 1]) (rest := []) X hM hl mc_oneOf (c_oneOf h3) rfl (Nat.le_of_ble_eq_true rfl) (Nat.le_of_ble_eq_true rfl) rfl dX6_taughtTold_42 (fun H locs hM => ?_)
    refine g_istore_n (lv' := [(2, .int r2), (0, .ref o), (1, .int r1)]) G dX6_taughtTold_45 rfl hl (Nat.le_of_ble_eq_true rfl) rfl (fun ls hl => ?_)
    refine g_iload_n G dX6_taughtTold_46 rfl (lv_at hl 0 rfl) ?_
    refine g_istore_n (lv' := [(3, .int r2), (2, .int r2), (0, .ref o), (1, .int r1)]) G dX6_taughtTold_47 rfl hl (Nat.le_of_ble_eq_true rfl) rfl (fun ls hl => ?_)
    obtain ⟨k75, hk75, hf⟩ := jn_open hf
    have K75 : ∀ (x1 : Int32) (z5 : MS) (H : Heap) (locs : List Loc), k75 x1 z5 = some z' → MI D o ad H0 z5 H locs → ∀ ls : Array Slot, lv_has ls 4 [(0, .ref o), (1, .int r1), (2, .int r2), (3, .int x1)] → Z H locs 0 0 (F0 m 75 ls []) := by
      intro x1 z5 H locs hf hM ls hl
      rw [hk75] at hf
      refine g_aload_n G dX6_taughtTold_75 rfl (lv_at hl 0 rfl) ?_
      refine mg_i X hM mf_5 dX6_taughtTold_76 ?_
      obtain ⟨j96, hj96, hf⟩ := jn_open hf
      have J96 : ∀ (z6 : MS) (H : Heap) (locs : List Loc), j96 z6 = some z' → MI D o ad H0 z6 H locs → ∀ ls : Array Slot, lv_has ls 4 [(0, .ref o), (1, .int r1), (2, .int r2)] → Z H locs 0 0 (F0 m 96 ls []) := by
        intro z6 H locs hf hM ls hl
        rw [hj96] at hf
        refine g_aload_n G dX6_taughtTold_96 rfl (lv_at hl 0 rfl) ?_
        refine mg_i X hM mf_5 dX6_taughtTold_97 ?_
        refine g_if_ne (tgt := 110) G dX6_taughtTold_100 rfl (fun c1 => ?_) (fun c1 => ?_)
        · have hf := it_neg c1 hf
          exact m_vret X hM hf dX6_taughtTold_110
        · have hf := it_pos c1 hf
          refine g_aload_n G dX6_taughtTold_103 rfl (lv_at hl 0 rfl) ?_
          refine mg_a X hM mf_45 dX6_taughtTold_104 ?_
          refine g_iload_n G dX6_taughtTold_107 rfl (lv_at hl 1 rfl) ?_
          refine g_iload_n G dX6_taughtTold_108 rfl (lv_at hl 2 rfl) ?_
          obtain ⟨b1, hf⟩ := ck_open hf
          obtain ⟨z7, hz7, hf⟩ := nm_open hf
          refine m_iast X hM (mIs.of mf_45) b1 hz7 dX6_taughtTold_109 (fun H locs hM => ?_)
          exact m_vret X hM hf dX6_taughtTold_110
      refine g_if_ne (tgt := 96) G dX6_taughtTold_79 rfl (fun c2 => ?_) (fun c2 => ?_)
      · have hf := it_neg c2 hf
        exact J96 _ _ _ hf hM ls (lv_sub hl [0, 1, 2] rfl)
      · have hf := it_pos c2 hf
        refine g_iload_n G dX6_taughtTold_82 rfl (lv_at hl 3 rfl) ?_
        refine g_iload_n G dX6_taughtTold_83 rfl (lv_at hl 1 rfl) ?_
        refine g_icmp_ne (tgt := 96) G dX6_taughtTold_84 rfl (fun c3 => ?_) (fun c3 => ?_)
        · have hf := it_neg c3 hf
          exact J96 _ _ _ hf hM ls (lv_sub hl [0, 1, 2] rfl)
        · have hf := it_pos c3 hf
          refine g_aload_n G dX6_taughtTold_87 rfl (lv_at hl 0 rfl) ?_
          refine g_iconst (v := 3) G dX6_taughtTold_88 rfl ?_
          refine g_aload_n G dX6_taughtTold_89 rfl (lv_at hl 0 rfl) ?_
          refine mg_i X hM mf_38 dX6_taughtTold_90 ?_
          obtain ⟨z8, h4, hf⟩ := bnv_open hf
          refine m_callVv (As := [.int 3, .int (mI z5 38)]) (rest := []) X hM hl mc_fail (c_fail h4) rfl (Nat.le_of_ble_eq_true rfl) (Nat.le_of_ble_eq_true rfl) rfl dX6_taughtTold_93 (fun H locs hM => ?_)
          exact J96 _ _ _ hf hM ls (lv_sub hl [0, 1, 2] rfl)
    have L48 : ∀ (n : Nat) (x2 : Int32) (z9 : MS) (H : Heap) (locs : List Loc), fx (m_taughtTold_L48 r1 k75) (fun _ _ => none) n x2 z9 = some z' → MI D o ad H0 z9 H locs → ∀ ls : Array Slot, lv_has ls 4 [(0, .ref o), (1, .int r1), (2, .int r2), (3, .int x2)] → Z H locs 0 0 (F0 m 48 ls []) := by
      intro n
      induction n with
      | zero => intro x2 z9 H locs hf; exact absurd hf (by intro q; cases q)
      | succ n ih48 =>
        intro x2 z9 H locs hf hM ls hl
        rw [fx_s] at hf
        generalize fx (m_taughtTold_L48 r1 k75) (fun _ _ => none) n = s48 at hf ih48
        unfold m_taughtTold_L48 at hf
        refine g_aload_n G dX6_taughtTold_48 rfl (lv_at hl 0 rfl) ?_
        refine mg_i X hM mf_5 dX6_taughtTold_49 ?_
        refine g_if_ne (tgt := 75) G dX6_taughtTold_52 rfl (fun c4 => ?_) (fun c4 => ?_)
        · have hf := it_neg c4 hf
          exact K75 _ _ _ _ hf hM ls (lv_sub hl [0, 1, 2, 3] rfl)
        · have hf := it_pos c4 hf
          refine g_iload_n G dX6_taughtTold_55 rfl (lv_at hl 3 rfl) ?_
          refine g_iconst (v := (-1)) G dX6_taughtTold_56 rfl ?_
          refine g_icmp_eq (tgt := 75) G dX6_taughtTold_57 rfl (fun c5 => ?_) (fun c5 => ?_)
          · have hf := it_pos c5 hf
            exact K75 _ _ _ _ hf hM ls (lv_sub hl [0, 1, 2, 3] rfl)
          · have hf := it_neg c5 hf
            refine g_iload_n G dX6_taughtTold_60 rfl (lv_at hl 3 rfl) ?_
            refine g_iload_n G dX6_taughtTold_61 rfl (lv_at hl 1 rfl) ?_
            refine g_icmp_eq (tgt := 75) G dX6_taughtTold_62 rfl (fun c6 => ?_) (fun c6 => ?_)
            · have hf := it_pos c6 hf
              exact K75 _ _ _ _ hf hM ls (lv_sub hl [0, 1, 2, 3] rfl)
            · have hf := it_neg c6 hf
              refine g_aload_n G dX6_taughtTold_65 rfl (lv_at hl 0 rfl) ?_
              refine mg_a X hM mf_45 dX6_taughtTold_66 ?_
              refine g_iload_n G dX6_taughtTold_69 rfl (lv_at hl 3 rfl) ?_
              obtain ⟨b2, hf⟩ := ck_open hf
              refine m_iald X hM (mIs.of mf_45) b2 dX6_taughtTold_70 ?_
              refine g_istore_n (lv' := [(3, .int (mA z9 45 (Int32.toNatClampNeg x2))), (0, .ref o), (1, .int r1), (2, .int r2)]) G dX6_taughtTold_71 rfl hl (Nat.le_of_ble_eq_true rfl) rfl (fun ls hl => ?_)
              refine g_goto (tgt := 48) G dX6_taughtTold_72 rfl ?_
              exact ih48 _ _ _ _ hf hM ls (lv_sub hl [1, 2, 3, 0] rfl)
    exact L48 FU _ _ _ _ hf hM ls (lv_sub hl [2, 3, 1, 0] rfl)
  refine g_if_ne (tgt := 32) G dX6_taughtTold_10 rfl (fun c7 => ?_) (fun c7 => ?_)
  · have hf := it_neg c7 hf
    exact J32 _ _ _ hf hM ls (lv_sub hl [1, 0] rfl)
  · have hf := it_pos c7 hf
    refine g_aload_n G dX6_taughtTold_13 rfl (lv_at hl 1 rfl) ?_
    refine mg_a X hM mf_45 dX6_taughtTold_14 ?_
    refine g_iload_n G dX6_taughtTold_17 rfl (lv_at hl 0 rfl) ?_
    obtain ⟨b3, hf⟩ := ck_open hf
    refine m_iald X hM (mIs.of mf_45) b3 dX6_taughtTold_18 ?_
    refine g_iconst (v := (-1)) G dX6_taughtTold_19 rfl ?_
    refine g_icmp_eq (tgt := 32) G dX6_taughtTold_20 rfl (fun c8 => ?_) (fun c8 => ?_)
    · have hf := it_pos c8 hf
      exact J32 _ _ _ hf hM ls (lv_sub hl [1, 0] rfl)
    · have hf := it_neg c8 hf
      refine g_aload_n G dX6_taughtTold_23 rfl (lv_at hl 1 rfl) ?_
      refine g_iconst (v := 3) G dX6_taughtTold_24 rfl ?_
      refine g_aload_n G dX6_taughtTold_25 rfl (lv_at hl 1 rfl) ?_
      refine mg_i X hM mf_38 dX6_taughtTold_26 ?_
      obtain ⟨z10, h5, hf⟩ := bnv_open hf
      refine m_callVv (As := [.int 3, .int (mI z1 38)]) (rest := []) X hM hl mc_fail (c_fail h5) rfl (Nat.le_of_ble_eq_true rfl) (Nat.le_of_ble_eq_true rfl) rfl dX6_taughtTold_29 (fun H locs hM => ?_)
      exact J32 _ _ _ hf hM ls (lv_sub hl [1, 0] rfl)
theorem mc_qOpens : mcV yX6_qOpens cX6_qOpens 3 (none) 2 579 := ⟨lw_V q2039 q2041 qs74 q157 q2042, ⟨rfl, by decide +kernel, by decide +kernel, by decide +kernel⟩, Nat.le_of_ble_eq_true rfl⟩
noncomputable def m_qOpens (a1 : Int32) (a2 : Int32) (z : MS) : Option (MS) :=
  if (mI z 5) = 0 then
    if (mI z 97) = 6 then
      bnv (m_fail 4 a2 z) fun z4 =>
      some z4
    else
      nm (wI z 97 ((mI z 97) + 1)) fun z1 =>
      ck (inb (mI z1 96) (mN 95)) <|
      nm (wA z1 95 (Int32.toNatClampNeg (mI z1 96)) a1) fun z2 =>
      nm (wI z2 96 ((mI z2 96) + 1)) fun z3 =>
      some z3
  else
    some z
set_option maxHeartbeats 1000000 in
theorem c_qOpens {l : Launch} {D : MD} {o : Nat} {ad : Nat → Nat} {a1 : Int32} {a2 : Int32} {z z' : MS} (hf : m_qOpens a1 a2 z = some z') : MMet l D o ad yX6_qOpens cX6_qOpens 3 (none) 2 [.ref o, .int a1, .int a2] z z' (none) := by
  unfold m_qOpens at hf
  refine m_head pnX6 rfl (Nat.le_of_ble_eq_true rfl) (fun m Z H0 ls X hM hl => ?_)
  have G := X.g
  have hl : lv_has ls 3 [(0, .ref o), (1, .int a1), (2, .int a2)] := hl
  refine g_aload_n G dX6_qOpens_0 rfl (lv_at hl 0 rfl) ?_
  refine mg_i X hM mf_5 dX6_qOpens_1 ?_
  refine g_if_eq (tgt := 8) G dX6_qOpens_4 rfl (fun c1 => ?_) (fun c1 => ?_)
  · have hf := it_pos c1 hf
    refine g_aload_n G dX6_qOpens_8 rfl (lv_at hl 0 rfl) ?_
    refine mg_i X hM mf_97 dX6_qOpens_9 ?_
    refine g_bipush (v := 6) G dX6_qOpens_12 rfl ?_
    refine g_icmp_ne (tgt := 24) G dX6_qOpens_14 rfl (fun c2 => ?_) (fun c2 => ?_)
    · have hf := it_neg c2 hf
      refine g_aload_n G dX6_qOpens_24 rfl (lv_at hl 0 rfl) ?_
      refine g_dup G dX6_qOpens_25 rfl ?_
      refine mg_i X hM mf_97 dX6_qOpens_26 ?_
      refine g_iconst (v := 1) G dX6_qOpens_29 rfl ?_
      refine g_iadd G dX6_qOpens_30 ?_
      obtain ⟨z1, hz1, hf⟩ := nm_open hf
      refine mp_i X hM mf_97 hz1 dX6_qOpens_31 (fun H locs hM => ?_)
      refine g_aload_n G dX6_qOpens_34 rfl (lv_at hl 0 rfl) ?_
      refine mg_a X hM mf_95 dX6_qOpens_35 ?_
      refine g_aload_n G dX6_qOpens_38 rfl (lv_at hl 0 rfl) ?_
      refine mg_i X hM mf_96 dX6_qOpens_39 ?_
      refine g_iload_n G dX6_qOpens_42 rfl (lv_at hl 1 rfl) ?_
      obtain ⟨b1, hf⟩ := ck_open hf
      obtain ⟨z2, hz2, hf⟩ := nm_open hf
      refine m_iast X hM (mIs.of mf_95) b1 hz2 dX6_qOpens_43 (fun H locs hM => ?_)
      refine g_aload_n G dX6_qOpens_44 rfl (lv_at hl 0 rfl) ?_
      refine g_dup G dX6_qOpens_45 rfl ?_
      refine mg_i X hM mf_96 dX6_qOpens_46 ?_
      refine g_iconst (v := 1) G dX6_qOpens_49 rfl ?_
      refine g_iadd G dX6_qOpens_50 ?_
      obtain ⟨z3, hz3, hf⟩ := nm_open hf
      refine mp_i X hM mf_96 hz3 dX6_qOpens_51 (fun H locs hM => ?_)
      exact m_vret X hM hf dX6_qOpens_54
    · have hf := it_pos c2 hf
      refine g_aload_n G dX6_qOpens_17 rfl (lv_at hl 0 rfl) ?_
      refine g_iconst (v := 4) G dX6_qOpens_18 rfl ?_
      refine g_iload_n G dX6_qOpens_19 rfl (lv_at hl 2 rfl) ?_
      obtain ⟨z4, h1, hf⟩ := bnv_open hf
      refine m_callVv (As := [.int 4, .int a2]) (rest := []) X hM hl mc_fail (c_fail h1) rfl (Nat.le_of_ble_eq_true rfl) (Nat.le_of_ble_eq_true rfl) rfl dX6_qOpens_20 (fun H locs hM => ?_)
      exact m_vret X hM hf dX6_qOpens_23
  · have hf := it_neg c1 hf
    exact m_vret X hM hf dX6_qOpens_7
theorem mc_qCode : mcV yX6_qCode cX6_qCode 2 (none) 1 561 := ⟨lw_V q2047 q2049 qs76 q157 q2050, ⟨rfl, by decide +kernel, by decide +kernel, by decide +kernel⟩, Nat.le_of_ble_eq_true rfl⟩
noncomputable def m_qCode (a1 : Int32) (z : MS) : Option (MS) :=
  ck (inb (mI z 94) (mN 93)) <|
  nm (wA z 93 (Int32.toNatClampNeg (mI z 94)) a1) fun z1 =>
  nm (wI z1 94 ((mI z1 94) + 1)) fun z2 =>
  some z2
set_option maxHeartbeats 1000000 in
theorem c_qCode {l : Launch} {D : MD} {o : Nat} {ad : Nat → Nat} {a1 : Int32} {z z' : MS} (hf : m_qCode a1 z = some z') : MMet l D o ad yX6_qCode cX6_qCode 2 (none) 1 [.ref o, .int a1] z z' (none) := by
  unfold m_qCode at hf
  refine m_head pnX6 rfl (Nat.le_of_ble_eq_true rfl) (fun m Z H0 ls X hM hl => ?_)
  have G := X.g
  have hl : lv_has ls 2 [(0, .ref o), (1, .int a1)] := hl
  refine g_aload_n G dX6_qCode_0 rfl (lv_at hl 0 rfl) ?_
  refine mg_a X hM mf_93 dX6_qCode_1 ?_
  refine g_aload_n G dX6_qCode_4 rfl (lv_at hl 0 rfl) ?_
  refine mg_i X hM mf_94 dX6_qCode_5 ?_
  refine g_iload_n G dX6_qCode_8 rfl (lv_at hl 1 rfl) ?_
  obtain ⟨b1, hf⟩ := ck_open hf
  obtain ⟨z1, hz1, hf⟩ := nm_open hf
  refine m_iast X hM (mIs.of mf_93) b1 hz1 dX6_qCode_9 (fun H locs hM => ?_)
  refine g_aload_n G dX6_qCode_10 rfl (lv_at hl 0 rfl) ?_
  refine g_dup G dX6_qCode_11 rfl ?_
  refine mg_i X hM mf_94 dX6_qCode_12 ?_
  refine g_iconst (v := 1) G dX6_qCode_15 rfl ?_
  refine g_iadd G dX6_qCode_16 ?_
  obtain ⟨z2, hz2, hf⟩ := nm_open hf
  refine mp_i X hM mf_94 hz2 dX6_qCode_17 (fun H locs hM => ?_)
  exact m_vret X hM hf dX6_qCode_20
