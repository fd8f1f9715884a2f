/-! PART 21: the Model's methods as plain functions, and their contracts (printed by decomp.py) -/
set_option maxRecDepth 100000

theorem mc_qDrops : mcV yX6_qDrops cX6_qDrops 1 (none) 0 567 := ⟨lw_V q2087 q2089 qs86 q157 q2090, ⟨rfl, by decide +kernel, by decide +kernel, by decide +kernel⟩, Nat.le_of_ble_eq_true rfl⟩
noncomputable def m_qDrops (z : MS) : Option (MS) :=
  nm (wI z 96 ((mI z 96) - 1)) fun z1 =>
  ck (inb (mI z1 96) (mN 95)) <|
  bnv (m_qCode (mA z1 95 (Int32.toNatClampNeg (mI z1 96))) z1) fun z2 =>
  some z2
set_option maxHeartbeats 1000000 in
theorem c_qDrops {l : Launch} {D : MD} {o : Nat} {ad : Nat → Nat} {z z' : MS} (hf : m_qDrops z = some z') : MMet l D o ad yX6_qDrops cX6_qDrops 1 (none) 2 [.ref o] z z' (none) := by
  unfold m_qDrops at hf
  refine m_head pnX6 rfl (Nat.le_of_ble_eq_true rfl) (fun m Z H0 ls X hM hl => ?_)
  have G := X.g
  have hl : lv_has ls 1 [(0, .ref o)] := hl
  refine g_aload_n G dX6_qDrops_0 rfl (lv_at hl 0 rfl) ?_
  refine g_dup G dX6_qDrops_1 rfl ?_
  refine mg_i X hM mf_96 dX6_qDrops_2 ?_
  refine g_iconst (v := 1) G dX6_qDrops_5 rfl ?_
  refine g_isub G dX6_qDrops_6 ?_
  obtain ⟨z1, hz1, hf⟩ := nm_open hf
  refine mp_i X hM mf_96 hz1 dX6_qDrops_7 (fun H locs hM => ?_)
  refine g_aload_n G dX6_qDrops_10 rfl (lv_at hl 0 rfl) ?_
  refine g_aload_n G dX6_qDrops_11 rfl (lv_at hl 0 rfl) ?_
  refine mg_a X hM mf_95 dX6_qDrops_12 ?_
  refine g_aload_n G dX6_qDrops_15 rfl (lv_at hl 0 rfl) ?_
  refine mg_i X hM mf_96 dX6_qDrops_16 ?_
  obtain ⟨b1, hf⟩ := ck_open hf
  refine m_iald X hM (mIs.of mf_95) b1 dX6_qDrops_19 ?_
  obtain ⟨z2, h1, hf⟩ := bnv_open hf
  refine m_callVv (As := [.int (mA z1 95 (Int32.toNatClampNeg (mI z1 96)))]) (rest := []) X hM hl mc_qCode (c_qCode h1) rfl (Nat.le_of_ble_eq_true rfl) (Nat.le_of_ble_eq_true rfl) rfl dX6_qDrops_20 (fun H locs hM => ?_)
  exact m_vret X hM hf dX6_qDrops_23
theorem mc_qWordHere : mcV yX6_qWordHere cX6_qWordHere 1 (some .int) 0 570 := ⟨lw_V q2063 q2065 qs80 q157 q2066, ⟨rfl, by decide +kernel, by decide +kernel, by decide +kernel⟩, Nat.le_of_ble_eq_true rfl⟩
noncomputable def m_qWordHere (z : MS) : Option (Int32 × MS) :=
  bnd (m_isHere 80 z) fun r1 z1 =>
  if (bI r1) = 0 then
    bnd (m_isHere 81 z1) fun r2 z2 =>
    if (bI r2) = 0 then
      bnd (m_isHere 82 z2) fun r3 z3 =>
      if (bI r3) = 0 then
        bnd (m_isHere 83 z3) fun r4 z4 =>
        if (bI r4) = 0 then
          bnd (m_isHere 84 z4) fun r5 z5 =>
          if (bI r5) = 0 then
            bnd (m_isHere 85 z5) fun r6 z6 =>
            if (bI r6) = 0 then
              bnd (m_isHere 86 z6) fun r7 z7 =>
              if (bI r7) = 0 then
                bnd (m_isHere 87 z7) fun r8 z8 =>
                if (bI r8) = 0 then
                  bnd (m_isHere 88 z8) fun r9 z9 =>
                  if (bI r9) = 0 then
                    bnd (m_isHere 89 z9) fun r10 z10 =>
                    if (bI r10) = 0 then
                      bnd (m_isHere 90 z10) fun r11 z11 =>
                      if (bI r11) = 0 then
                        bnd (m_isHere 91 z11) fun r12 z12 =>
                        if (bI r12) = 0 then
                          bnd (m_isHere 92 z12) fun r13 z13 =>
                          if (bI r13) = 0 then
                            some ((-1), z13)
                          else
                            some (12, z13)
                        else
                          some (11, z12)
                      else
                        some (10, z11)
                    else
                      some (9, z10)
                  else
                    some (8, z9)
                else
                  some (7, z8)
              else
                some (6, z7)
            else
              some (5, z6)
          else
            some (4, z5)
        else
          some (3, z4)
      else
        some (2, z3)
    else
      some (1, z2)
  else
    some (0, z1)
set_option maxHeartbeats 1000000 in
theorem c_qWordHere {l : Launch} {D : MD} {o : Nat} {ad : Nat → Nat} {z z' : MS} {r : Int32} (hf : m_qWordHere z = some (r, z')) : MMet l D o ad yX6_qWordHere cX6_qWordHere 1 (some .int) 3 [.ref o] z z' (some (.int r)) := by
  unfold m_qWordHere at hf
  refine m_head pnX6 rfl (Nat.le_of_ble_eq_true rfl) (fun m Z H0 ls X hM hl => ?_)
  have G := X.g
  have hl : lv_has ls 1 [(0, .ref o)] := hl
  refine g_aload_n G dX6_qWordHere_0 rfl (lv_at hl 0 rfl) ?_
  refine g_aload_n G dX6_qWordHere_1 rfl (lv_at hl 0 rfl) ?_
  refine mg_a X hM mf_80 dX6_qWordHere_2 ?_
  obtain ⟨r1, z1, h1, hf⟩ := bnd_open hf
  refine m_callVi (As := [.ref (ad 80)]) (rest := []) X hM hl mc_isHere (c_isHere (mIs.of mf_80) h1) rfl (Nat.le_of_ble_eq_true rfl) (Nat.le_of_ble_eq_true rfl) rfl dX6_qWordHere_5 (fun H locs hM => ?_)
  refine g_if_eq (tgt := 13) G dX6_qWordHere_8 rfl (fun c1 => ?_) (fun c1 => ?_)
  · have hf := it_pos c1 hf
    refine g_aload_n G dX6_qWordHere_13 rfl (lv_at hl 0 rfl) ?_
    refine g_aload_n G dX6_qWordHere_14 rfl (lv_at hl 0 rfl) ?_
    refine mg_a X hM mf_81 dX6_qWordHere_15 ?_
    obtain ⟨r2, z2, h2, hf⟩ := bnd_open hf
    refine m_callVi (As := [.ref (ad 81)]) (rest := []) X hM hl mc_isHere (c_isHere (mIs.of mf_81) h2) rfl (Nat.le_of_ble_eq_true rfl) (Nat.le_of_ble_eq_true rfl) rfl dX6_qWordHere_18 (fun H locs hM => ?_)
    refine g_if_eq (tgt := 26) G dX6_qWordHere_21 rfl (fun c2 => ?_) (fun c2 => ?_)
    · have hf := it_pos c2 hf
      refine g_aload_n G dX6_qWordHere_26 rfl (lv_at hl 0 rfl) ?_
      refine g_aload_n G dX6_qWordHere_27 rfl (lv_at hl 0 rfl) ?_
      refine mg_a X hM mf_82 dX6_qWordHere_28 ?_
      obtain ⟨r3, z3, h3, hf⟩ := bnd_open hf
      refine m_callVi (As := [.ref (ad 82)]) (rest := []) X hM hl mc_isHere (c_isHere (mIs.of mf_82) h3) rfl (Nat.le_of_ble_eq_true rfl) (Nat.le_of_ble_eq_true rfl) rfl dX6_qWordHere_31 (fun H locs hM => ?_)
      refine g_if_eq (tgt := 39) G dX6_qWordHere_34 rfl (fun c3 => ?_) (fun c3 => ?_)
      · have hf := it_pos c3 hf
        refine g_aload_n G dX6_qWordHere_39 rfl (lv_at hl 0 rfl) ?_
        refine g_aload_n G dX6_qWordHere_40 rfl (lv_at hl 0 rfl) ?_
        refine mg_a X hM mf_83 dX6_qWordHere_41 ?_
        obtain ⟨r4, z4, h4, hf⟩ := bnd_open hf
        refine m_callVi (As := [.ref (ad 83)]) (rest := []) X hM hl mc_isHere (c_isHere (mIs.of mf_83) h4) rfl (Nat.le_of_ble_eq_true rfl) (Nat.le_of_ble_eq_true rfl) rfl dX6_qWordHere_44 (fun H locs hM => ?_)
        refine g_if_eq (tgt := 52) G dX6_qWordHere_47 rfl (fun c4 => ?_) (fun c4 => ?_)
        · have hf := it_pos c4 hf
          refine g_aload_n G dX6_qWordHere_52 rfl (lv_at hl 0 rfl) ?_
          refine g_aload_n G dX6_qWordHere_53 rfl (lv_at hl 0 rfl) ?_
          refine mg_a X hM mf_84 dX6_qWordHere_54 ?_
          obtain ⟨r5, z5, h5, hf⟩ := bnd_open hf
          refine m_callVi (As := [.ref (ad 84)]) (rest := []) X hM hl mc_isHere (c_isHere (mIs.of mf_84) h5) rfl (Nat.le_of_ble_eq_true rfl) (Nat.le_of_ble_eq_true rfl) rfl dX6_qWordHere_57 (fun H locs hM => ?_)
          refine g_if_eq (tgt := 65) G dX6_qWordHere_60 rfl (fun c5 => ?_) (fun c5 => ?_)
          · have hf := it_pos c5 hf
            refine g_aload_n G dX6_qWordHere_65 rfl (lv_at hl 0 rfl) ?_
            refine g_aload_n G dX6_qWordHere_66 rfl (lv_at hl 0 rfl) ?_
            refine mg_a X hM mf_85 dX6_qWordHere_67 ?_
            obtain ⟨r6, z6, h6, hf⟩ := bnd_open hf
            refine m_callVi (As := [.ref (ad 85)]) (rest := []) X hM hl mc_isHere (c_isHere (mIs.of mf_85) h6) rfl (Nat.le_of_ble_eq_true rfl) (Nat.le_of_ble_eq_true rfl) rfl dX6_qWordHere_70 (fun H locs hM => ?_)
            refine g_if_eq (tgt := 78) G dX6_qWordHere_73 rfl (fun c6 => ?_) (fun c6 => ?_)
            · have hf := it_pos c6 hf
              refine g_aload_n G dX6_qWordHere_78 rfl (lv_at hl 0 rfl) ?_
              refine g_aload_n G dX6_qWordHere_79 rfl (lv_at hl 0 rfl) ?_
              refine mg_a X hM mf_86 dX6_qWordHere_80 ?_
              obtain ⟨r7, z7, h7, hf⟩ := bnd_open hf
              refine m_callVi (As := [.ref (ad 86)]) (rest := []) X hM hl mc_isHere (c_isHere (mIs.of mf_86) h7) rfl (Nat.le_of_ble_eq_true rfl) (Nat.le_of_ble_eq_true rfl) rfl dX6_qWordHere_83 (fun H locs hM => ?_)
              refine g_if_eq (tgt := 92) G dX6_qWordHere_86 rfl (fun c7 => ?_) (fun c7 => ?_)
              · have hf := it_pos c7 hf
                refine g_aload_n G dX6_qWordHere_92 rfl (lv_at hl 0 rfl) ?_
                refine g_aload_n G dX6_qWordHere_93 rfl (lv_at hl 0 rfl) ?_
                refine mg_a X hM mf_87 dX6_qWordHere_94 ?_
                obtain ⟨r8, z8, h8, hf⟩ := bnd_open hf
                refine m_callVi (As := [.ref (ad 87)]) (rest := []) X hM hl mc_isHere (c_isHere (mIs.of mf_87) h8) rfl (Nat.le_of_ble_eq_true rfl) (Nat.le_of_ble_eq_true rfl) rfl dX6_qWordHere_97 (fun H locs hM => ?_)
                refine g_if_eq (tgt := 106) G dX6_qWordHere_100 rfl (fun c8 => ?_) (fun c8 => ?_)
                · have hf := it_pos c8 hf
                  refine g_aload_n G dX6_qWordHere_106 rfl (lv_at hl 0 rfl) ?_
                  refine g_aload_n G dX6_qWordHere_107 rfl (lv_at hl 0 rfl) ?_
                  refine mg_a X hM mf_88 dX6_qWordHere_108 ?_
                  obtain ⟨r9, z9, h9, hf⟩ := bnd_open hf
                  refine m_callVi (As := [.ref (ad 88)]) (rest := []) X hM hl mc_isHere (c_isHere (mIs.of mf_88) h9) rfl (Nat.le_of_ble_eq_true rfl) (Nat.le_of_ble_eq_true rfl) rfl dX6_qWordHere_111 (fun H locs hM => ?_)
                  refine g_if_eq (tgt := 120) G dX6_qWordHere_114 rfl (fun c9 => ?_) (fun c9 => ?_)
                  · have hf := it_pos c9 hf
                    refine g_aload_n G dX6_qWordHere_120 rfl (lv_at hl 0 rfl) ?_
                    refine g_aload_n G dX6_qWordHere_121 rfl (lv_at hl 0 rfl) ?_
                    refine mg_a X hM mf_89 dX6_qWordHere_122 ?_
                    obtain ⟨r10, z10, h10, hf⟩ := bnd_open hf
                    refine m_callVi (As := [.ref (ad 89)]) (rest := []) X hM hl mc_isHere (c_isHere (mIs.of mf_89) h10) rfl (Nat.le_of_ble_eq_true rfl) (Nat.le_of_ble_eq_true rfl) rfl dX6_qWordHere_125 (fun H locs hM => ?_)
                    refine g_if_eq (tgt := 134) G dX6_qWordHere_128 rfl (fun c10 => ?_) (fun c10 => ?_)
                    · have hf := it_pos c10 hf
                      refine g_aload_n G dX6_qWordHere_134 rfl (lv_at hl 0 rfl) ?_
                      refine g_aload_n G dX6_qWordHere_135 rfl (lv_at hl 0 rfl) ?_
                      refine mg_a X hM mf_90 dX6_qWordHere_136 ?_
                      obtain ⟨r11, z11, h11, hf⟩ := bnd_open hf
                      refine m_callVi (As := [.ref (ad 90)]) (rest := []) X hM hl mc_isHere (c_isHere (mIs.of mf_90) h11) rfl (Nat.le_of_ble_eq_true rfl) (Nat.le_of_ble_eq_true rfl) rfl dX6_qWordHere_139 (fun H locs hM => ?_)
                      refine g_if_eq (tgt := 148) G dX6_qWordHere_142 rfl (fun c11 => ?_) (fun c11 => ?_)
                      · have hf := it_pos c11 hf
                        refine g_aload_n G dX6_qWordHere_148 rfl (lv_at hl 0 rfl) ?_
                        refine g_aload_n G dX6_qWordHere_149 rfl (lv_at hl 0 rfl) ?_
                        refine mg_a X hM mf_91 dX6_qWordHere_150 ?_
                        obtain ⟨r12, z12, h12, hf⟩ := bnd_open hf
                        refine m_callVi (As := [.ref (ad 91)]) (rest := []) X hM hl mc_isHere (c_isHere (mIs.of mf_91) h12) rfl (Nat.le_of_ble_eq_true rfl) (Nat.le_of_ble_eq_true rfl) rfl dX6_qWordHere_153 (fun H locs hM => ?_)
                        refine g_if_eq (tgt := 162) G dX6_qWordHere_156 rfl (fun c12 => ?_) (fun c12 => ?_)
                        · have hf := it_pos c12 hf
                          refine g_aload_n G dX6_qWordHere_162 rfl (lv_at hl 0 rfl) ?_
                          refine g_aload_n G dX6_qWordHere_163 rfl (lv_at hl 0 rfl) ?_
                          refine mg_a X hM mf_92 dX6_qWordHere_164 ?_
                          obtain ⟨r13, z13, h13, hf⟩ := bnd_open hf
                          refine m_callVi (As := [.ref (ad 92)]) (rest := []) X hM hl mc_isHere (c_isHere (mIs.of mf_92) h13) rfl (Nat.le_of_ble_eq_true rfl) (Nat.le_of_ble_eq_true rfl) rfl dX6_qWordHere_167 (fun H locs hM => ?_)
                          refine g_if_eq (tgt := 176) G dX6_qWordHere_170 rfl (fun c13 => ?_) (fun c13 => ?_)
                          · have hf := it_pos c13 hf
                            refine g_iconst (v := (-1)) G dX6_qWordHere_176 rfl ?_
                            exact m_iret X hM hf dX6_qWordHere_177
                          · have hf := it_neg c13 hf
                            refine g_bipush (v := 12) G dX6_qWordHere_173 rfl ?_
                            exact m_iret X hM hf dX6_qWordHere_175
                        · have hf := it_neg c12 hf
                          refine g_bipush (v := 11) G dX6_qWordHere_159 rfl ?_
                          exact m_iret X hM hf dX6_qWordHere_161
                      · have hf := it_neg c11 hf
                        refine g_bipush (v := 10) G dX6_qWordHere_145 rfl ?_
                        exact m_iret X hM hf dX6_qWordHere_147
                    · have hf := it_neg c10 hf
                      refine g_bipush (v := 9) G dX6_qWordHere_131 rfl ?_
                      exact m_iret X hM hf dX6_qWordHere_133
                  · have hf := it_neg c9 hf
                    refine g_bipush (v := 8) G dX6_qWordHere_117 rfl ?_
                    exact m_iret X hM hf dX6_qWordHere_119
                · have hf := it_neg c8 hf
                  refine g_bipush (v := 7) G dX6_qWordHere_103 rfl ?_
                  exact m_iret X hM hf dX6_qWordHere_105
              · have hf := it_neg c7 hf
                refine g_bipush (v := 6) G dX6_qWordHere_89 rfl ?_
                exact m_iret X hM hf dX6_qWordHere_91
            · have hf := it_neg c6 hf
              refine g_iconst (v := 5) G dX6_qWordHere_76 rfl ?_
              exact m_iret X hM hf dX6_qWordHere_77
          · have hf := it_neg c5 hf
            refine g_iconst (v := 4) G dX6_qWordHere_63 rfl ?_
            exact m_iret X hM hf dX6_qWordHere_64
        · have hf := it_neg c4 hf
          refine g_iconst (v := 3) G dX6_qWordHere_50 rfl ?_
          exact m_iret X hM hf dX6_qWordHere_51
      · have hf := it_neg c3 hf
        refine g_iconst (v := 2) G dX6_qWordHere_37 rfl ?_
        exact m_iret X hM hf dX6_qWordHere_38
    · have hf := it_neg c2 hf
      refine g_iconst (v := 1) G dX6_qWordHere_24 rfl ?_
      exact m_iret X hM hf dX6_qWordHere_25
  · have hf := it_neg c1 hf
    refine g_iconst (v := 0) G dX6_qWordHere_11 rfl ?_
    exact m_iret X hM hf dX6_qWordHere_12
theorem mc_qWordOf : mcV yX6_qWordOf cX6_qWordOf 4 (some .int) 2 576 := ⟨lw_V q2059 q2061 qs79 q157 q2062, ⟨rfl, by decide +kernel, by decide +kernel, by decide +kernel⟩, Nat.le_of_ble_eq_true rfl⟩
noncomputable def m_qWordOf (a1 : Int32) (a2 : Int32) (z : MS) : Option (Int32 × MS) :=
  bnd (m_qWordHere z) fun r1 z1 =>
  jn (fun (z2 : MS) =>
    some ((-1), z2)) fun j27 =>
  if r1 < a1 then
    j27 z1
  else
    if a2 ≤ r1 then
      j27 z1
    else
      bnd (m_isAllowed r1 z1) fun r2 z3 =>
      if (bI r2) = 0 then
        j27 z3
      else
        some (r1, z3)
set_option maxHeartbeats 1000000 in
theorem c_qWordOf {l : Launch} {D : MD} {o : Nat} {ad : Nat → Nat} {a1 : Int32} {a2 : Int32} {z z' : MS} {r : Int32} (hf : m_qWordOf a1 a2 z = some (r, z')) : MMet l D o ad yX6_qWordOf cX6_qWordOf 4 (some .int) 4 [.ref o, .int a1, .int a2] z z' (some (.int r)) := by
  unfold m_qWordOf at hf
  refine m_head pnX6 rfl (Nat.le_of_ble_eq_true rfl) (fun m Z H0 ls X hM hl => ?_)
  have G := X.g
  have hl : lv_has ls 4 [(0, .ref o), (1, .int a1), (2, .int a2)] := hl
  refine g_aload_n G dX6_qWordOf_0 rfl (lv_at hl 0 rfl) ?_
  obtain ⟨r1, z1, h1, hf⟩ := bnd_open hf
  refine m_callVi (As := []) (rest := []) X hM hl mc_qWordHere (c_qWordHere h1) rfl (Nat.le_of_ble_eq_true rfl) (Nat.le_of_ble_eq_true rfl) rfl dX6_qWordOf_1 (fun H locs hM => ?_)
  refine g_istore_n (lv' := [(3, .int r1), (0, .ref o), (1, .int a1), (2, .int a2)]) G dX6_qWordOf_4 rfl hl (Nat.le_of_ble_eq_true rfl) rfl (fun ls hl => ?_)
  refine g_iload_n G dX6_qWordOf_5 rfl (lv_at hl 0 rfl) ?_
  refine g_iload_n G dX6_qWordOf_6 rfl (lv_at hl 2 rfl) ?_
  obtain ⟨j27, hj27, hf⟩ := jn_open hf
  have J27 : ∀ (z2 : MS) (H : Heap) (locs : List Loc), j27 z2 = some (r, z') → MI D o ad H0 z2 H locs → ∀ ls : Array Slot, lv_has ls 4 [] → Z H locs 0 0 (F0 m 27 ls []) := by
    intro z2 H locs hf hM ls hl
    rw [hj27] at hf
    refine g_iconst (v := (-1)) G dX6_qWordOf_27 rfl ?_
    exact m_iret X hM hf dX6_qWordOf_28
  refine g_icmp_lt (tgt := 27) G dX6_qWordOf_7 rfl (fun c1 => ?_) (fun c1 => ?_)
  · have hf := it_pos c1 hf
    exact J27 _ _ _ hf hM ls (lv_sub hl [] rfl)
  · have hf := it_neg c1 hf
    refine g_iload_n G dX6_qWordOf_10 rfl (lv_at hl 0 rfl) ?_
    refine g_iload_n G dX6_qWordOf_11 rfl (lv_at hl 3 rfl) ?_
    refine g_icmp_ge (tgt := 27) G dX6_qWordOf_12 rfl (fun c2 => ?_) (fun c2 => ?_)
    · have hf := it_pos c2 hf
      exact J27 _ _ _ hf hM ls (lv_sub hl [] rfl)
    · have hf := it_neg c2 hf
      refine g_aload_n G dX6_qWordOf_15 rfl (lv_at hl 1 rfl) ?_
      refine g_iload_n G dX6_qWordOf_16 rfl (lv_at hl 0 rfl) ?_
      obtain ⟨r2, z3, h2, hf⟩ := bnd_open hf
      refine m_callVi (As := [.int r1]) (rest := []) X hM hl mc_isAllowed (c_isAllowed h2) rfl (Nat.le_of_ble_eq_true rfl) (Nat.le_of_ble_eq_true rfl) rfl dX6_qWordOf_17 (fun H locs hM => ?_)
      refine g_if_eq (tgt := 27) G dX6_qWordOf_20 rfl (fun c3 => ?_) (fun c3 => ?_)
      · have hf := it_pos c3 hf
        exact J27 _ _ _ hf hM ls (lv_sub hl [] rfl)
      · have hf := it_neg c3 hf
        refine g_iload_n G dX6_qWordOf_23 rfl (lv_at hl 0 rfl) ?_
        refine g_goto (tgt := 28) G dX6_qWordOf_24 rfl ?_
        exact m_iret X hM hf dX6_qWordOf_28
theorem mc_qAsksWord : mcV yX6_qAsksWord cX6_qAsksWord 2 (none) 1 582 := ⟨lw_V q2079 q2081 qs84 q157 q2082, ⟨rfl, by decide +kernel, by decide +kernel, by decide +kernel⟩, Nat.le_of_ble_eq_true rfl⟩
noncomputable def m_qAsksWord (a1 : Int32) (z : MS) : Option (MS) :=
  if a1 = 0 then
    bnv (m_asks 80 z) fun z1 =>
    some z1
  else
    if a1 = 1 then
      bnv (m_asks 81 z) fun z2 =>
      some z2
    else
      if a1 = 2 then
        bnv (m_asks 82 z) fun z3 =>
        some z3
      else
        if a1 = 3 then
          bnv (m_asks 83 z) fun z4 =>
          some z4
        else
          if a1 = 4 then
            bnv (m_asks 84 z) fun z5 =>
            some z5
          else
            if a1 = 5 then
              bnv (m_asks 85 z) fun z6 =>
              some z6
            else
              if a1 = 6 then
                bnv (m_asks 86 z) fun z7 =>
                some z7
              else
                if a1 = 7 then
                  bnv (m_asks 87 z) fun z8 =>
                  some z8
                else
                  if a1 = 8 then
                    bnv (m_asks 88 z) fun z9 =>
                    some z9
                  else
                    if a1 = 9 then
                      bnv (m_asks 89 z) fun z10 =>
                      some z10
                    else
                      if a1 = 10 then
                        bnv (m_asks 90 z) fun z11 =>
                        some z11
                      else
                        if a1 = 11 then
                          bnv (m_asks 91 z) fun z12 =>
                          some z12
                        else
                          bnv (m_asks 92 z) fun z13 =>
                          some z13
set_option maxHeartbeats 1000000 in
theorem c_qAsksWord {l : Launch} {D : MD} {o : Nat} {ad : Nat → Nat} {a1 : Int32} {z z' : MS} (hf : m_qAsksWord a1 z = some z') : MMet l D o ad yX6_qAsksWord cX6_qAsksWord 2 (none) 5 [.ref o, .int a1] z z' (none) := by
  unfold m_qAsksWord at hf
  refine m_head pnX6 rfl (Nat.le_of_ble_eq_true rfl) (fun m Z H0 ls X hM hl => ?_)
  have G := X.g
  have hl : lv_has ls 2 [(0, .ref o), (1, .int a1)] := hl
  refine g_iload_n G dX6_qAsksWord_0 rfl (lv_at hl 1 rfl) ?_
  by_cases c1 : a1 = 0
  · have hf := it_pos c1 hf
    refine g_tableIn (off := 63) (tgt := 64) G dX6_qAsksWord_1 (by rw [c1]; decide) (by rw [c1]; decide) (by rw [c1]; rfl) rfl ?_
    refine g_aload_n G dX6_qAsksWord_64 rfl (lv_at hl 0 rfl) ?_
    refine g_aload_n G dX6_qAsksWord_65 rfl (lv_at hl 0 rfl) ?_
    refine mg_a X hM mf_80 dX6_qAsksWord_66 ?_
    obtain ⟨z1, h1, hf⟩ := bnv_open hf
    refine m_callVv (As := [.ref (ad 80)]) (rest := []) X hM hl mc_asks (c_asks (mIs.of mf_80) h1) rfl (Nat.le_of_ble_eq_true rfl) (Nat.le_of_ble_eq_true rfl) rfl dX6_qAsksWord_69 (fun H locs hM => ?_)
    refine g_goto (tgt := 204) G dX6_qAsksWord_72 rfl ?_
    exact m_vret X hM hf dX6_qAsksWord_204
  have hf := it_neg c1 hf
  by_cases c2 : a1 = 1
  · have hf := it_pos c2 hf
    refine g_tableIn (off := 74) (tgt := 75) G dX6_qAsksWord_1 (by rw [c2]; decide) (by rw [c2]; decide) (by rw [c2]; rfl) rfl ?_
    refine g_aload_n G dX6_qAsksWord_75 rfl (lv_at hl 0 rfl) ?_
    refine g_aload_n G dX6_qAsksWord_76 rfl (lv_at hl 0 rfl) ?_
    refine mg_a X hM mf_81 dX6_qAsksWord_77 ?_
    obtain ⟨z2, h2, hf⟩ := bnv_open hf
    refine m_callVv (As := [.ref (ad 81)]) (rest := []) X hM hl mc_asks (c_asks (mIs.of mf_81) h2) rfl (Nat.le_of_ble_eq_true rfl) (Nat.le_of_ble_eq_true rfl) rfl dX6_qAsksWord_80 (fun H locs hM => ?_)
    refine g_goto (tgt := 204) G dX6_qAsksWord_83 rfl ?_
    exact m_vret X hM hf dX6_qAsksWord_204
  have hf := it_neg c2 hf
  by_cases c3 : a1 = 2
  · have hf := it_pos c3 hf
    refine g_tableIn (off := 85) (tgt := 86) G dX6_qAsksWord_1 (by rw [c3]; decide) (by rw [c3]; decide) (by rw [c3]; rfl) rfl ?_
    refine g_aload_n G dX6_qAsksWord_86 rfl (lv_at hl 0 rfl) ?_
    refine g_aload_n G dX6_qAsksWord_87 rfl (lv_at hl 0 rfl) ?_
    refine mg_a X hM mf_82 dX6_qAsksWord_88 ?_
    obtain ⟨z3, h3, hf⟩ := bnv_open hf
    refine m_callVv (As := [.ref (ad 82)]) (rest := []) X hM hl mc_asks (c_asks (mIs.of mf_82) h3) rfl (Nat.le_of_ble_eq_true rfl) (Nat.le_of_ble_eq_true rfl) rfl dX6_qAsksWord_91 (fun H locs hM => ?_)
    refine g_goto (tgt := 204) G dX6_qAsksWord_94 rfl ?_
    exact m_vret X hM hf dX6_qAsksWord_204
  have hf := it_neg c3 hf
  by_cases c4 : a1 = 3
  · have hf := it_pos c4 hf
    refine g_tableIn (off := 96) (tgt := 97) G dX6_qAsksWord_1 (by rw [c4]; decide) (by rw [c4]; decide) (by rw [c4]; rfl) rfl ?_
    refine g_aload_n G dX6_qAsksWord_97 rfl (lv_at hl 0 rfl) ?_
    refine g_aload_n G dX6_qAsksWord_98 rfl (lv_at hl 0 rfl) ?_
    refine mg_a X hM mf_83 dX6_qAsksWord_99 ?_
    obtain ⟨z4, h4, hf⟩ := bnv_open hf
    refine m_callVv (As := [.ref (ad 83)]) (rest := []) X hM hl mc_asks (c_asks (mIs.of mf_83) h4) rfl (Nat.le_of_ble_eq_true rfl) (Nat.le_of_ble_eq_true rfl) rfl dX6_qAsksWord_102 (fun H locs hM => ?_)
    refine g_goto (tgt := 204) G dX6_qAsksWord_105 rfl ?_
    exact m_vret X hM hf dX6_qAsksWord_204
  have hf := it_neg c4 hf
  by_cases c5 : a1 = 4
  · have hf := it_pos c5 hf
    refine g_tableIn (off := 107) (tgt := 108) G dX6_qAsksWord_1 (by rw [c5]; decide) (by rw [c5]; decide) (by rw [c5]; rfl) rfl ?_
    refine g_aload_n G dX6_qAsksWord_108 rfl (lv_at hl 0 rfl) ?_
    refine g_aload_n G dX6_qAsksWord_109 rfl (lv_at hl 0 rfl) ?_
    refine mg_a X hM mf_84 dX6_qAsksWord_110 ?_
    obtain ⟨z5, h5, hf⟩ := bnv_open hf
    refine m_callVv (As := [.ref (ad 84)]) (rest := []) X hM hl mc_asks (c_asks (mIs.of mf_84) h5) rfl (Nat.le_of_ble_eq_true rfl) (Nat.le_of_ble_eq_true rfl) rfl dX6_qAsksWord_113 (fun H locs hM => ?_)
    refine g_goto (tgt := 204) G dX6_qAsksWord_116 rfl ?_
    exact m_vret X hM hf dX6_qAsksWord_204
  have hf := it_neg c5 hf
  by_cases c6 : a1 = 5
  · have hf := it_pos c6 hf
    refine g_tableIn (off := 118) (tgt := 119) G dX6_qAsksWord_1 (by rw [c6]; decide) (by rw [c6]; decide) (by rw [c6]; rfl) rfl ?_
    refine g_aload_n G dX6_qAsksWord_119 rfl (lv_at hl 0 rfl) ?_
    refine g_aload_n G dX6_qAsksWord_120 rfl (lv_at hl 0 rfl) ?_
    refine mg_a X hM mf_85 dX6_qAsksWord_121 ?_
    obtain ⟨z6, h6, hf⟩ := bnv_open hf
    refine m_callVv (As := [.ref (ad 85)]) (rest := []) X hM hl mc_asks (c_asks (mIs.of mf_85) h6) rfl (Nat.le_of_ble_eq_true rfl) (Nat.le_of_ble_eq_true rfl) rfl dX6_qAsksWord_124 (fun H locs hM => ?_)
    refine g_goto (tgt := 204) G dX6_qAsksWord_127 rfl ?_
    exact m_vret X hM hf dX6_qAsksWord_204
  have hf := it_neg c6 hf
  by_cases c7 : a1 = 6
  · have hf := it_pos c7 hf
    refine g_tableIn (off := 129) (tgt := 130) G dX6_qAsksWord_1 (by rw [c7]; decide) (by rw [c7]; decide) (by rw [c7]; rfl) rfl ?_
    refine g_aload_n G dX6_qAsksWord_130 rfl (lv_at hl 0 rfl) ?_
    refine g_aload_n G dX6_qAsksWord_131 rfl (lv_at hl 0 rfl) ?_
    refine mg_a X hM mf_86 dX6_qAsksWord_132 ?_
    obtain ⟨z7, h7, hf⟩ := bnv_open hf
    refine m_callVv (As := [.ref (ad 86)]) (rest := []) X hM hl mc_asks (c_asks (mIs.of mf_86) h7) rfl (Nat.le_of_ble_eq_true rfl) (Nat.le_of_ble_eq_true rfl) rfl dX6_qAsksWord_135 (fun H locs hM => ?_)
    refine g_goto (tgt := 204) G dX6_qAsksWord_138 rfl ?_
    exact m_vret X hM hf dX6_qAsksWord_204
  have hf := it_neg c7 hf
  by_cases c8 : a1 = 7
  · have hf := it_pos c8 hf
    refine g_tableIn (off := 140) (tgt := 141) G dX6_qAsksWord_1 (by rw [c8]; decide) (by rw [c8]; decide) (by rw [c8]; rfl) rfl ?_
    refine g_aload_n G dX6_qAsksWord_141 rfl (lv_at hl 0 rfl) ?_
    refine g_aload_n G dX6_qAsksWord_142 rfl (lv_at hl 0 rfl) ?_
    refine mg_a X hM mf_87 dX6_qAsksWord_143 ?_
    obtain ⟨z8, h8, hf⟩ := bnv_open hf
    refine m_callVv (As := [.ref (ad 87)]) (rest := []) X hM hl mc_asks (c_asks (mIs.of mf_87) h8) rfl (Nat.le_of_ble_eq_true rfl) (Nat.le_of_ble_eq_true rfl) rfl dX6_qAsksWord_146 (fun H locs hM => ?_)
    refine g_goto (tgt := 204) G dX6_qAsksWord_149 rfl ?_
    exact m_vret X hM hf dX6_qAsksWord_204
  have hf := it_neg c8 hf
  by_cases c9 : a1 = 8
  · have hf := it_pos c9 hf
    refine g_tableIn (off := 151) (tgt := 152) G dX6_qAsksWord_1 (by rw [c9]; decide) (by rw [c9]; decide) (by rw [c9]; rfl) rfl ?_
    refine g_aload_n G dX6_qAsksWord_152 rfl (lv_at hl 0 rfl) ?_
    refine g_aload_n G dX6_qAsksWord_153 rfl (lv_at hl 0 rfl) ?_
    refine mg_a X hM mf_88 dX6_qAsksWord_154 ?_
    obtain ⟨z9, h9, hf⟩ := bnv_open hf
    refine m_callVv (As := [.ref (ad 88)]) (rest := []) X hM hl mc_asks (c_asks (mIs.of mf_88) h9) rfl (Nat.le_of_ble_eq_true rfl) (Nat.le_of_ble_eq_true rfl) rfl dX6_qAsksWord_157 (fun H locs hM => ?_)
    refine g_goto (tgt := 204) G dX6_qAsksWord_160 rfl ?_
    exact m_vret X hM hf dX6_qAsksWord_204
  have hf := it_neg c9 hf
  by_cases c10 : a1 = 9
  · have hf := it_pos c10 hf
    refine g_tableIn (off := 162) (tgt := 163) G dX6_qAsksWord_1 (by rw [c10]; decide) (by rw [c10]; decide) (by rw [c10]; rfl) rfl ?_
    refine g_aload_n G dX6_qAsksWord_163 rfl (lv_at hl 0 rfl) ?_
    refine g_aload_n G dX6_qAsksWord_164 rfl (lv_at hl 0 rfl) ?_
    refine mg_a X hM mf_89 dX6_qAsksWord_165 ?_
    obtain ⟨z10, h10, hf⟩ := bnv_open hf
    refine m_callVv (As := [.ref (ad 89)]) (rest := []) X hM hl mc_asks (c_asks (mIs.of mf_89) h10) rfl (Nat.le_of_ble_eq_true rfl) (Nat.le_of_ble_eq_true rfl) rfl dX6_qAsksWord_168 (fun H locs hM => ?_)
    refine g_goto (tgt := 204) G dX6_qAsksWord_171 rfl ?_
    exact m_vret X hM hf dX6_qAsksWord_204
  have hf := it_neg c10 hf
  by_cases c11 : a1 = 10
  · have hf := it_pos c11 hf
    refine g_tableIn (off := 173) (tgt := 174) G dX6_qAsksWord_1 (by rw [c11]; decide) (by rw [c11]; decide) (by rw [c11]; rfl) rfl ?_
    refine g_aload_n G dX6_qAsksWord_174 rfl (lv_at hl 0 rfl) ?_
    refine g_aload_n G dX6_qAsksWord_175 rfl (lv_at hl 0 rfl) ?_
    refine mg_a X hM mf_90 dX6_qAsksWord_176 ?_
    obtain ⟨z11, h11, hf⟩ := bnv_open hf
    refine m_callVv (As := [.ref (ad 90)]) (rest := []) X hM hl mc_asks (c_asks (mIs.of mf_90) h11) rfl (Nat.le_of_ble_eq_true rfl) (Nat.le_of_ble_eq_true rfl) rfl dX6_qAsksWord_179 (fun H locs hM => ?_)
    refine g_goto (tgt := 204) G dX6_qAsksWord_182 rfl ?_
    exact m_vret X hM hf dX6_qAsksWord_204
  have hf := it_neg c11 hf
  by_cases c12 : a1 = 11
  · have hf := it_pos c12 hf
    refine g_tableIn (off := 184) (tgt := 185) G dX6_qAsksWord_1 (by rw [c12]; decide) (by rw [c12]; decide) (by rw [c12]; rfl) rfl ?_
    refine g_aload_n G dX6_qAsksWord_185 rfl (lv_at hl 0 rfl) ?_
    refine g_aload_n G dX6_qAsksWord_186 rfl (lv_at hl 0 rfl) ?_
    refine mg_a X hM mf_91 dX6_qAsksWord_187 ?_
    obtain ⟨z12, h12, hf⟩ := bnv_open hf
    refine m_callVv (As := [.ref (ad 91)]) (rest := []) X hM hl mc_asks (c_asks (mIs.of mf_91) h12) rfl (Nat.le_of_ble_eq_true rfl) (Nat.le_of_ble_eq_true rfl) rfl dX6_qAsksWord_190 (fun H locs hM => ?_)
    refine g_goto (tgt := 204) G dX6_qAsksWord_193 rfl ?_
    exact m_vret X hM hf dX6_qAsksWord_204
  have hf := it_neg c12 hf
  refine g_tableOut (tgt := 196) G dX6_qAsksWord_1 (by have ec1 := lv_neT c1 (a := 0) rfl; have ec2 := lv_neT c2 (a := 1) rfl; have ec3 := lv_neT c3 (a := 2) rfl; have ec4 := lv_neT c4 (a := 3) rfl; have ec5 := lv_neT c5 (a := 4) rfl; have ec6 := lv_neT c6 (a := 5) rfl; have ec7 := lv_neT c7 (a := 6) rfl; have ec8 := lv_neT c8 (a := 7) rfl; have ec9 := lv_neT c9 (a := 8) rfl; have ec10 := lv_neT c10 (a := 9) rfl; have ec11 := lv_neT c11 (a := 10) rfl; have ec12 := lv_neT c12 (a := 11) rfl; omega) rfl ?_
  refine g_aload_n G dX6_qAsksWord_196 rfl (lv_at hl 0 rfl) ?_
  refine g_aload_n G dX6_qAsksWord_197 rfl (lv_at hl 0 rfl) ?_
  refine mg_a X hM mf_92 dX6_qAsksWord_198 ?_
  obtain ⟨z13, h13, hf⟩ := bnv_open hf
  refine m_callVv (As := [.ref (ad 92)]) (rest := []) X hM hl mc_asks (c_asks (mIs.of mf_92) h13) rfl (Nat.le_of_ble_eq_true rfl) (Nat.le_of_ble_eq_true rfl) rfl dX6_qAsksWord_201 (fun H locs hM => ?_)
  exact m_vret X hM hf dX6_qAsksWord_204
theorem mc_qEndsPart : mcV yX6_qEndsPart cX6_qEndsPart 1 (none) 0 585 := ⟨lw_V q2083 q2085 qs85 q157 q2086, ⟨rfl, by decide +kernel, by decide +kernel, by decide +kernel⟩, Nat.le_of_ble_eq_true rfl⟩
noncomputable def m_qEndsPart_L0 (s0 : MS → Option (MS)) (z1 : MS) : Option (MS) :=
  if (mI z1 5) = 0 then
    if (mI z1 96) ≤ (mI z1 98) then
      some z1
    else
      ck (inb ((mI z1 96) - 1) (mN 95)) <|
      if (mA z1 95 (Int32.toNatClampNeg ((mI z1 96) - 1))) < 60 then
        some z1
      else
        nm (wI z1 97 ((mI z1 97) - 1)) fun z2 =>
        bnv (m_qDrops z2) fun z3 =>
        s0 z3
  else
    some z1
noncomputable def m_qEndsPart (z : MS) : Option (MS) :=
  fx m_qEndsPart_L0 (fun _ => none) FU  z
set_option maxHeartbeats 1000000 in
theorem c_qEndsPart {l : Launch} {D : MD} {o : Nat} {ad : Nat → Nat} {z z' : MS} (hf : m_qEndsPart z = some z') : MMet l D o ad yX6_qEndsPart cX6_qEndsPart 1 (none) 3 [.ref o] z z' (none) := by
  unfold m_qEndsPart at hf
  refine m_head pnX6 rfl (Nat.le_of_ble_eq_true rfl) (fun m Z H0 ls X hM hl => ?_)
  have G := X.g
  have hl : lv_has ls 1 [(0, .ref o)] := hl
  have L0 : ∀ (n : Nat) (z1 : MS) (H : Heap) (locs : List Loc), fx m_qEndsPart_L0 (fun _ => none) n z1 = some z' → MI D o ad H0 z1 H locs → ∀ ls : Array Slot, lv_has ls 1 [(0, .ref o)] → Z H locs 0 0 (F0 m 0 ls []) := by
    intro n
    induction n with
    | zero => intro z1 H locs hf; exact absurd hf (by intro q; cases q)
    | succ n ih0 =>
      intro z1 H locs hf hM ls hl
      rw [fx_s] at hf
      generalize fx m_qEndsPart_L0 (fun _ => none) n = s0 at hf ih0
      unfold m_qEndsPart_L0 at hf
      refine g_aload_n G dX6_qEndsPart_0 rfl (lv_at hl 0 rfl) ?_
      refine mg_i X hM mf_5 dX6_qEndsPart_1 ?_
      refine g_if_ne (tgt := 51) G dX6_qEndsPart_4 rfl (fun c1 => ?_) (fun c1 => ?_)
      · have hf := it_neg c1 hf
        exact m_vret X hM hf dX6_qEndsPart_51
      · have hf := it_pos c1 hf
        refine g_aload_n G dX6_qEndsPart_7 rfl (lv_at hl 0 rfl) ?_
        refine mg_i X hM mf_96 dX6_qEndsPart_8 ?_
        refine g_aload_n G dX6_qEndsPart_11 rfl (lv_at hl 0 rfl) ?_
        refine mg_i X hM mf_98 dX6_qEndsPart_12 ?_
        refine g_icmp_le (tgt := 51) G dX6_qEndsPart_15 rfl (fun c2 => ?_) (fun c2 => ?_)
        · have hf := it_pos c2 hf
          exact m_vret X hM hf dX6_qEndsPart_51
        · have hf := it_neg c2 hf
          refine g_aload_n G dX6_qEndsPart_18 rfl (lv_at hl 0 rfl) ?_
          refine mg_a X hM mf_95 dX6_qEndsPart_19 ?_
          refine g_aload_n G dX6_qEndsPart_22 rfl (lv_at hl 0 rfl) ?_
          refine mg_i X hM mf_96 dX6_qEndsPart_23 ?_
          refine g_iconst (v := 1) G dX6_qEndsPart_26 rfl ?_
          refine g_isub G dX6_qEndsPart_27 ?_
          obtain ⟨b1, hf⟩ := ck_open hf
          refine m_iald X hM (mIs.of mf_95) b1 dX6_qEndsPart_28 ?_
          refine g_bipush (v := 60) G dX6_qEndsPart_29 rfl ?_
          refine g_icmp_lt (tgt := 51) G dX6_qEndsPart_31 rfl (fun c3 => ?_) (fun c3 => ?_)
          · have hf := it_pos c3 hf
            exact m_vret X hM hf dX6_qEndsPart_51
          · have hf := it_neg c3 hf
            refine g_aload_n G dX6_qEndsPart_34 rfl (lv_at hl 0 rfl) ?_
            refine g_dup G dX6_qEndsPart_35 rfl ?_
            refine mg_i X hM mf_97 dX6_qEndsPart_36 ?_
            refine g_iconst (v := 1) G dX6_qEndsPart_39 rfl ?_
            refine g_isub G dX6_qEndsPart_40 ?_
            obtain ⟨z2, hz2, hf⟩ := nm_open hf
            refine mp_i X hM mf_97 hz2 dX6_qEndsPart_41 (fun H locs hM => ?_)
            refine g_aload_n G dX6_qEndsPart_44 rfl (lv_at hl 0 rfl) ?_
            obtain ⟨z3, h1, hf⟩ := bnv_open hf
            refine m_callVv (As := []) (rest := []) X hM hl mc_qDrops (c_qDrops h1) rfl (Nat.le_of_ble_eq_true rfl) (Nat.le_of_ble_eq_true rfl) rfl dX6_qEndsPart_45 (fun H locs hM => ?_)
            refine g_goto (tgt := 0) G dX6_qEndsPart_48 rfl ?_
            exact ih0 _ _ _ hf hM ls (lv_sub hl [0] rfl)
  exact L0 FU _ _ _ hf hM ls (lv_sub hl [0] rfl)
theorem mc_qPartTold : mcV yX6_qPartTold cX6_qPartTold 6 (none) 0 597 := ⟨lw_V q2055 q2057 qs78 q157 q2058, ⟨rfl, by decide +kernel, by decide +kernel, by decide +kernel⟩, Nat.le_of_ble_eq_true rfl⟩
noncomputable def m_qPartTold_L2 (k186 : MS → Option (MS)) (s2 : Bool → MS → Option (MS)) (x2 : Bool) (z9 : MS) : Option (MS) :=
  if (bI x2) = 0 then
    k186 z9
  else
    if (mI z9 5) = 0 then
      bnd (m_look z9) fun r3 z10 =>
      bnd (m_qWordOf 12 13 z10) fun r4 z11 =>
      jn (fun (x3 : Bool) (z12 : MS) =>
        s2 x3 z12) fun j183 =>
      if r3 = 40 then
        bnv (m_qOpens 20 (mI z11 2) z11) fun z27 =>
        nm (wI z27 2 ((mI z27 2) + 1)) fun z28 =>
        j183 x2 z28
      else
        bnd (m_isHere 78 z11) fun r5 z13 =>
        jn (fun (z14 : MS) =>
          bnd (m_takes 78 z14) fun r6 z15 =>
          jn (fun (z16 : MS) =>
            bnd (m_look z16) fun r7 z17 =>
            jn (fun (x4 : Int32) (z18 : MS) =>
              jn (fun (z19 : MS) =>
                bnv (m_asksSign 40 z19) fun z20 =>
                j183 x2 z20) fun j144 =>
              if x4 = (-1) then
                j144 z18
              else
                jn (fun (x5 : Int32) (z21 : MS) =>
                  bnv (m_qOpens x5 x4 z21) fun z22 =>
                  j144 z22) fun j139 =>
                if (bI r6) = 0 then
                  j139 22 z18
                else
                  j139 21 z18) fun j118 =>
            if r7 = 40 then
              j118 (mI z17 2) z17
            else
              j118 (-1) z17) fun j101 =>
          if (bI r6) = 0 then
            bnv (m_asks 79 z15) fun z23 =>
            j101 z23
          else
            j101 z15) fun j78 =>
        if (bI r5) = 0 then
          bnd (m_isHere 79 z13) fun r8 z24 =>
          if (bI r8) = 0 then
            if r4 = (-1) then
              j183 false z24
            else
              bnv (m_qOpens ((60 + r4) - 12) (mI z24 2) z24) fun z25 =>
              bnv (m_qAsksWord r4 z25) fun z26 =>
              j183 x2 z26
          else
            j78 z24
        else
          j78 z13
    else
      k186 z9
noncomputable def m_qPartTold (z : MS) : Option (MS) :=
  jn (fun (z1 : MS) =>
    if (mI z1 5) = 0 then
      bnd (m_qWordOf 0 12 z1) fun r1 z2 =>
      jn (fun (z3 : MS) =>
        jn (fun (x1 : Int32) (z4 : MS) =>
          bnv (m_qCode x1 z4) fun z5 =>
          bnv (m_qEndsPart z5) fun z6 =>
          some z6) fun j237 =>
        if r1 = (-1) then
          bnd (m_number 0 9999 z3) fun r2 z7 =>
          j237 (1000 + r2) z7
        else
          j237 (40 + r1) z3) fun j212 =>
      if r1 = (-1) then
        j212 z2
      else
        bnv (m_qAsksWord r1 z2) fun z8 =>
        j212 z8
    else
      some z1) fun k186 =>
  fx (m_qPartTold_L2 k186) (fun _ _ => none) FU true z
set_option maxHeartbeats 1000000 in
theorem c_qPartTold {l : Launch} {D : MD} {o : Nat} {ad : Nat → Nat} {z z' : MS} (hf : m_qPartTold z = some z') : MMet l D o ad yX6_qPartTold cX6_qPartTold 6 (none) 6 [.ref o] z z' (none) := by
  unfold m_qPartTold at hf
  refine m_head pnX6 rfl (Nat.le_of_ble_eq_true rfl) (fun m Z H0 ls X hM hl => ?_)
  have G := X.g
  have hl : lv_has ls 6 [(0, .ref o)] := hl
  refine g_iconst (v := 1) G dX6_qPartTold_0 rfl ?_
  refine g_istore_n (lv' := [(1, .int 1), (0, .ref o)]) G dX6_qPartTold_1 rfl hl (Nat.le_of_ble_eq_true rfl) rfl (fun ls hl => ?_)
  obtain ⟨k186, hk186, hf⟩ := jn_open hf
  have K186 : ∀ (z1 : MS) (H : Heap) (locs : List Loc), k186 z1 = some z' → MI D o ad H0 z1 H locs → ∀ ls : Array Slot, lv_has ls 6 [(0, .ref o)] → Z H locs 0 0 (F0 m 186 ls []) := by
    intro z1 H locs hf hM ls hl
    rw [hk186] at hf
    refine g_aload_n G dX6_qPartTold_186 rfl (lv_at hl 0 rfl) ?_
    refine mg_i X hM mf_5 dX6_qPartTold_187 ?_
    refine g_if_eq (tgt := 194) G dX6_qPartTold_190 rfl (fun c1 => ?_) (fun c1 => ?_)
    · have hf := it_pos c1 hf
      refine g_aload_n G dX6_qPartTold_194 rfl (lv_at hl 0 rfl) ?_
      refine g_iconst (v := 0) G dX6_qPartTold_195 rfl ?_
      refine g_bipush (v := 12) G dX6_qPartTold_196 rfl ?_
      obtain ⟨r1, z2, h1, hf⟩ := bnd_open hf
      refine m_callVi (As := [.int 0, .int 12]) (rest := []) X hM hl mc_qWordOf (c_qWordOf h1) rfl (Nat.le_of_ble_eq_true rfl) (Nat.le_of_ble_eq_true rfl) rfl dX6_qPartTold_198 (fun H locs hM => ?_)
      refine g_istore_n (lv' := [(2, .int r1), (0, .ref o)]) G dX6_qPartTold_201 rfl hl (Nat.le_of_ble_eq_true rfl) rfl (fun ls hl => ?_)
      refine g_iload_n G dX6_qPartTold_202 rfl (lv_at hl 0 rfl) ?_
      refine g_iconst (v := (-1)) G dX6_qPartTold_203 rfl ?_
      obtain ⟨j212, hj212, hf⟩ := jn_open hf
      have J212 : ∀ (z3 : MS) (H : Heap) (locs : List Loc), j212 z3 = some z' → MI D o ad H0 z3 H locs → ∀ ls : Array Slot, lv_has ls 6 [(0, .ref o), (2, .int r1)] → Z H locs 0 0 (F0 m 212 ls []) := by
        intro z3 H locs hf hM ls hl
        rw [hj212] at hf
        refine g_aload_n G dX6_qPartTold_212 rfl (lv_at hl 0 rfl) ?_
        refine g_iload_n G dX6_qPartTold_213 rfl (lv_at hl 1 rfl) ?_
        refine g_iconst (v := (-1)) G dX6_qPartTold_214 rfl ?_
        obtain ⟨j237, hj237, hf⟩ := jn_open hf
        have J237 : ∀ (x1 : Int32) (z4 : MS) (H : Heap) (locs : List Loc), j237 x1 z4 = some z' → MI D o ad H0 z4 H locs → ∀ ls : Array Slot, lv_has ls 6 [(0, .ref o)] → Z H locs 0 0 (F0 m 237 ls [.int x1, .ref o]) := by
          intro x1 z4 H locs hf hM ls hl
          rw [hj237] at hf
          obtain ⟨z5, h2, hf⟩ := bnv_open hf
          refine m_callVv (As := [.int x1]) (rest := []) X hM hl mc_qCode (c_qCode h2) rfl (Nat.le_of_ble_eq_true rfl) (Nat.le_of_ble_eq_true rfl) rfl dX6_qPartTold_237 (fun H locs hM => ?_)
          refine g_aload_n G dX6_qPartTold_240 rfl (lv_at hl 0 rfl) ?_
          obtain ⟨z6, h3, hf⟩ := bnv_open hf
          refine m_callVv (As := []) (rest := []) X hM hl mc_qEndsPart (c_qEndsPart h3) rfl (Nat.le_of_ble_eq_true rfl) (Nat.le_of_ble_eq_true rfl) rfl dX6_qPartTold_241 (fun H locs hM => ?_)
          exact m_vret X hM hf dX6_qPartTold_244
        refine g_icmp_eq (tgt := 225) G dX6_qPartTold_215 rfl (fun c2 => ?_) (fun c2 => ?_)
        · have hf := it_pos c2 hf
          refine g_sipush (v := 1000) G dX6_qPartTold_225 rfl ?_
          refine g_aload_n G dX6_qPartTold_228 rfl (lv_at hl 0 rfl) ?_
          refine g_iconst (v := 0) G dX6_qPartTold_229 rfl ?_
          refine g_sipush (v := 9999) G dX6_qPartTold_230 rfl ?_
          obtain ⟨r2, z7, h4, hf⟩ := bnd_open hf
          refine m_callVi (As := [.int 0, .int 9999]) (rest := [.int 1000, .ref o]) X hM hl mc_number (c_number h4) rfl (Nat.le_of_ble_eq_true rfl) (Nat.le_of_ble_eq_true rfl) rfl dX6_qPartTold_233 (fun H locs hM => ?_)
          refine g_iadd G dX6_qPartTold_236 ?_
          exact J237 _ _ _ _ hf hM ls (lv_sub hl [0] rfl)
        · have hf := it_neg c2 hf
          refine g_bipush (v := 40) G dX6_qPartTold_218 rfl ?_
          refine g_iload_n G dX6_qPartTold_220 rfl (lv_at hl 1 rfl) ?_
          refine g_iadd G dX6_qPartTold_221 ?_
          refine g_goto (tgt := 237) G dX6_qPartTold_222 rfl ?_
          exact J237 _ _ _ _ hf hM ls (lv_sub hl [0] rfl)
      refine g_icmp_eq (tgt := 212) G dX6_qPartTold_204 rfl (fun c3 => ?_) (fun c3 => ?_)
      · have hf := it_pos c3 hf
        exact J212 _ _ _ hf hM ls (lv_sub hl [1, 0] rfl)
      · have hf := it_neg c3 hf
        refine g_aload_n G dX6_qPartTold_207 rfl (lv_at hl 1 rfl) ?_
        refine g_iload_n G dX6_qPartTold_208 rfl (lv_at hl 0 rfl) ?_
        obtain ⟨z8, h5, hf⟩ := bnv_open hf
        refine m_callVv (As := [.int r1]) (rest := []) X hM hl mc_qAsksWord (c_qAsksWord h5) rfl (Nat.le_of_ble_eq_true rfl) (Nat.le_of_ble_eq_true rfl) rfl dX6_qPartTold_209 (fun H locs hM => ?_)
        exact J212 _ _ _ hf hM ls (lv_sub hl [1, 0] rfl)
    · have hf := it_neg c1 hf
      exact m_vret X hM hf dX6_qPartTold_193
  have L2 : ∀ (n : Nat) (x2 : Bool) (z9 : MS) (H : Heap) (locs : List Loc), fx (m_qPartTold_L2 k186) (fun _ _ => none) n x2 z9 = some z' → MI D o ad H0 z9 H locs → ∀ ls : Array Slot, lv_has ls 6 [(0, .ref o), (1, .int (bI x2))] → Z H locs 0 0 (F0 m 2 ls []) := by
    intro n
    induction n with
    | zero => intro x2 z9 H locs hf; exact absurd hf (by intro q; cases q)
    | succ n ih2 =>
      intro x2 z9 H locs hf hM ls hl
      rw [fx_s] at hf
      generalize fx (m_qPartTold_L2 k186) (fun _ _ => none) n = s2 at hf ih2
      unfold m_qPartTold_L2 at hf
      refine g_iload_n G dX6_qPartTold_2 rfl (lv_at hl 1 rfl) ?_
      refine g_if_eq (tgt := 186) G dX6_qPartTold_3 rfl (fun c4 => ?_) (fun c4 => ?_)
      · have hf := it_pos c4 hf
        exact K186 _ _ _ hf hM ls (lv_sub hl [0] rfl)
      · have hf := it_neg c4 hf
        refine g_aload_n G dX6_qPartTold_6 rfl (lv_at hl 0 rfl) ?_
        refine mg_i X hM mf_5 dX6_qPartTold_7 ?_
        refine g_if_ne (tgt := 186) G dX6_qPartTold_10 rfl (fun c5 => ?_) (fun c5 => ?_)
        · have hf := it_neg c5 hf
          exact K186 _ _ _ hf hM ls (lv_sub hl [0] rfl)
        · have hf := it_pos c5 hf
          refine g_aload_n G dX6_qPartTold_13 rfl (lv_at hl 0 rfl) ?_
          obtain ⟨r3, z10, h6, hf⟩ := bnd_open hf
          refine m_callVi (As := []) (rest := []) X hM hl mc_look (c_look h6) rfl (Nat.le_of_ble_eq_true rfl) (Nat.le_of_ble_eq_true rfl) rfl dX6_qPartTold_14 (fun H locs hM => ?_)
          refine g_istore_n (lv' := [(2, .int r3), (0, .ref o), (1, .int (bI x2))]) G dX6_qPartTold_17 rfl hl (Nat.le_of_ble_eq_true rfl) rfl (fun ls hl => ?_)
          refine g_aload_n G dX6_qPartTold_18 rfl (lv_at hl 1 rfl) ?_
          refine g_bipush (v := 12) G dX6_qPartTold_19 rfl ?_
          refine g_bipush (v := 13) G dX6_qPartTold_21 rfl ?_
          obtain ⟨r4, z11, h7, hf⟩ := bnd_open hf
          refine m_callVi (As := [.int 12, .int 13]) (rest := []) X hM hl mc_qWordOf (c_qWordOf h7) rfl (Nat.le_of_ble_eq_true rfl) (Nat.le_of_ble_eq_true rfl) rfl dX6_qPartTold_23 (fun H locs hM => ?_)
          refine g_istore_n (lv' := [(3, .int r4), (2, .int r3), (0, .ref o), (1, .int (bI x2))]) G dX6_qPartTold_26 rfl hl (Nat.le_of_ble_eq_true rfl) rfl (fun ls hl => ?_)
          refine g_iload_n G dX6_qPartTold_27 rfl (lv_at hl 1 rfl) ?_
          refine g_bipush (v := 40) G dX6_qPartTold_28 rfl ?_
          obtain ⟨j183, hj183, hf⟩ := jn_open hf
          have J183 : ∀ (x3 : Bool) (z12 : MS) (H : Heap) (locs : List Loc), j183 x3 z12 = some z' → MI D o ad H0 z12 H locs → ∀ ls : Array Slot, lv_has ls 6 [(0, .ref o), (1, .int (bI x3))] → Z H locs 0 0 (F0 m 183 ls []) := by
            intro x3 z12 H locs hf hM ls hl
            rw [hj183] at hf
            refine g_goto (tgt := 2) G dX6_qPartTold_183 rfl ?_
            exact ih2 _ _ _ _ hf hM ls (lv_sub hl [0, 1] rfl)
          refine g_icmp_ne (tgt := 56) G dX6_qPartTold_30 rfl (fun c6 => ?_) (fun c6 => ?_)
          · have hf := it_neg c6 hf
            refine g_aload_n G dX6_qPartTold_56 rfl (lv_at hl 2 rfl) ?_
            refine g_aload_n G dX6_qPartTold_57 rfl (lv_at hl 2 rfl) ?_
            refine mg_a X hM mf_78 dX6_qPartTold_58 ?_
            obtain ⟨r5, z13, h8, hf⟩ := bnd_open hf
            refine m_callVi (As := [.ref (ad 78)]) (rest := []) X hM hl mc_isHere (c_isHere (mIs.of mf_78) h8) rfl (Nat.le_of_ble_eq_true rfl) (Nat.le_of_ble_eq_true rfl) rfl dX6_qPartTold_61 (fun H locs hM => ?_)
            obtain ⟨j78, hj78, hf⟩ := jn_open hf
            have J78 : ∀ (z14 : MS) (H : Heap) (locs : List Loc), j78 z14 = some z' → MI D o ad H0 z14 H locs → ∀ ls : Array Slot, lv_has ls 6 [(0, .ref o), (1, .int (bI x2))] → Z H locs 0 0 (F0 m 78 ls []) := by
              intro z14 H locs hf hM ls hl
              rw [hj78] at hf
              refine g_aload_n G dX6_qPartTold_78 rfl (lv_at hl 0 rfl) ?_
              refine g_aload_n G dX6_qPartTold_79 rfl (lv_at hl 0 rfl) ?_
              refine mg_a X hM mf_78 dX6_qPartTold_80 ?_
              obtain ⟨r6, z15, h9, hf⟩ := bnd_open hf
              refine m_callVi (As := [.ref (ad 78)]) (rest := []) X hM hl mc_takes (c_takes (mIs.of mf_78) h9) rfl (Nat.le_of_ble_eq_true rfl) (Nat.le_of_ble_eq_true rfl) rfl dX6_qPartTold_83 (fun H locs hM => ?_)
              refine g_istore (lv' := [(4, .int (bI r6)), (0, .ref o), (1, .int (bI x2))]) G dX6_qPartTold_86 hl (Nat.le_of_ble_eq_true rfl) rfl (fun ls hl => ?_)
              refine g_iload G dX6_qPartTold_88 (lv_at hl 0 rfl) ?_
              obtain ⟨j101, hj101, hf⟩ := jn_open hf
              have J101 : ∀ (z16 : MS) (H : Heap) (locs : List Loc), j101 z16 = some z' → MI D o ad H0 z16 H locs → ∀ ls : Array Slot, lv_has ls 6 [(0, .ref o), (1, .int (bI x2)), (4, .int (bI r6))] → Z H locs 0 0 (F0 m 101 ls []) := by
                intro z16 H locs hf hM ls hl
                rw [hj101] at hf
                refine g_aload_n G dX6_qPartTold_101 rfl (lv_at hl 0 rfl) ?_
                obtain ⟨r7, z17, h10, hf⟩ := bnd_open hf
                refine m_callVi (As := []) (rest := []) X hM hl mc_look (c_look h10) rfl (Nat.le_of_ble_eq_true rfl) (Nat.le_of_ble_eq_true rfl) rfl dX6_qPartTold_102 (fun H locs hM => ?_)
                refine g_bipush (v := 40) G dX6_qPartTold_105 rfl ?_
                obtain ⟨j118, hj118, hf⟩ := jn_open hf
                have J118 : ∀ (x4 : Int32) (z18 : MS) (H : Heap) (locs : List Loc), j118 x4 z18 = some z' → MI D o ad H0 z18 H locs → ∀ ls : Array Slot, lv_has ls 6 [(0, .ref o), (1, .int (bI x2)), (4, .int (bI r6))] → Z H locs 0 0 (F0 m 118 ls [.int x4]) := by
                  intro x4 z18 H locs hf hM ls hl
                  rw [hj118] at hf
                  refine g_istore (lv' := [(5, .int x4), (0, .ref o), (1, .int (bI x2)), (4, .int (bI r6))]) G dX6_qPartTold_118 hl (Nat.le_of_ble_eq_true rfl) rfl (fun ls hl => ?_)
                  refine g_iload G dX6_qPartTold_120 (lv_at hl 0 rfl) ?_
                  refine g_iconst (v := (-1)) G dX6_qPartTold_122 rfl ?_
                  obtain ⟨j144, hj144, hf⟩ := jn_open hf
                  have J144 : ∀ (z19 : MS) (H : Heap) (locs : List Loc), j144 z19 = some z' → MI D o ad H0 z19 H locs → ∀ ls : Array Slot, lv_has ls 6 [(0, .ref o), (1, .int (bI x2))] → Z H locs 0 0 (F0 m 144 ls []) := by
                    intro z19 H locs hf hM ls hl
                    rw [hj144] at hf
                    refine g_aload_n G dX6_qPartTold_144 rfl (lv_at hl 0 rfl) ?_
                    refine g_bipush (v := 40) G dX6_qPartTold_145 rfl ?_
                    obtain ⟨z20, h11, hf⟩ := bnv_open hf
                    refine m_callVv (As := [.int 40]) (rest := []) X hM hl mc_asksSign (c_asksSign h11) rfl (Nat.le_of_ble_eq_true rfl) (Nat.le_of_ble_eq_true rfl) rfl dX6_qPartTold_147 (fun H locs hM => ?_)
                    refine g_goto (tgt := 183) G dX6_qPartTold_150 rfl ?_
                    exact J183 _ _ _ _ hf hM ls (lv_sub hl [0, 1] rfl)
                  refine g_icmp_eq (tgt := 144) G dX6_qPartTold_123 rfl (fun c7 => ?_) (fun c7 => ?_)
                  · have hf := it_pos c7 hf
                    exact J144 _ _ _ hf hM ls (lv_sub hl [1, 2] rfl)
                  · have hf := it_neg c7 hf
                    refine g_aload_n G dX6_qPartTold_126 rfl (lv_at hl 1 rfl) ?_
                    refine g_iload G dX6_qPartTold_127 (lv_at hl 3 rfl) ?_
                    obtain ⟨j139, hj139, hf⟩ := jn_open hf
                    have J139 : ∀ (x5 : Int32) (z21 : MS) (H : Heap) (locs : List Loc), j139 x5 z21 = some z' → MI D o ad H0 z21 H locs → ∀ ls : Array Slot, lv_has ls 6 [(0, .ref o), (1, .int (bI x2)), (5, .int x4)] → Z H locs 0 0 (F0 m 139 ls [.int x5, .ref o]) := by
                      intro x5 z21 H locs hf hM ls hl
                      rw [hj139] at hf
                      refine g_iload G dX6_qPartTold_139 (lv_at hl 2 rfl) ?_
                      obtain ⟨z22, h12, hf⟩ := bnv_open hf
                      refine m_callVv (As := [.int x5, .int x4]) (rest := []) X hM hl mc_qOpens (c_qOpens h12) rfl (Nat.le_of_ble_eq_true rfl) (Nat.le_of_ble_eq_true rfl) rfl dX6_qPartTold_141 (fun H locs hM => ?_)
                      exact J144 _ _ _ hf hM ls (lv_sub hl [0, 1] rfl)
                    refine g_if_eq (tgt := 137) G dX6_qPartTold_129 rfl (fun c8 => ?_) (fun c8 => ?_)
                    · have hf := it_pos c8 hf
                      refine g_bipush (v := 22) G dX6_qPartTold_137 rfl ?_
                      exact J139 _ _ _ _ hf hM ls (lv_sub hl [1, 2, 0] rfl)
                    · have hf := it_neg c8 hf
                      refine g_bipush (v := 21) G dX6_qPartTold_132 rfl ?_
                      refine g_goto (tgt := 139) G dX6_qPartTold_134 rfl ?_
                      exact J139 _ _ _ _ hf hM ls (lv_sub hl [1, 2, 0] rfl)
                refine g_icmp_ne (tgt := 117) G dX6_qPartTold_107 rfl (fun c9 => ?_) (fun c9 => ?_)
                · have hf := it_neg c9 hf
                  refine g_iconst (v := (-1)) G dX6_qPartTold_117 rfl ?_
                  exact J118 _ _ _ _ hf hM ls (lv_sub hl [0, 1, 2] rfl)
                · have hf := it_pos c9 hf
                  refine g_aload_n G dX6_qPartTold_110 rfl (lv_at hl 0 rfl) ?_
                  refine mg_i X hM mf_2 dX6_qPartTold_111 ?_
                  refine g_goto (tgt := 118) G dX6_qPartTold_114 rfl ?_
                  exact J118 _ _ _ _ hf hM ls (lv_sub hl [0, 1, 2] rfl)
              refine g_if_ne (tgt := 101) G dX6_qPartTold_90 rfl (fun c10 => ?_) (fun c10 => ?_)
              · have hf := it_neg c10 hf
                exact J101 _ _ _ hf hM ls (lv_sub hl [1, 2, 0] rfl)
              · have hf := it_pos c10 hf
                refine g_aload_n G dX6_qPartTold_93 rfl (lv_at hl 1 rfl) ?_
                refine g_aload_n G dX6_qPartTold_94 rfl (lv_at hl 1 rfl) ?_
                refine mg_a X hM mf_79 dX6_qPartTold_95 ?_
                obtain ⟨z23, h13, hf⟩ := bnv_open hf
                refine m_callVv (As := [.ref (ad 79)]) (rest := []) X hM hl mc_asks (c_asks (mIs.of mf_79) h13) rfl (Nat.le_of_ble_eq_true rfl) (Nat.le_of_ble_eq_true rfl) rfl dX6_qPartTold_98 (fun H locs hM => ?_)
                exact J101 _ _ _ hf hM ls (lv_sub hl [1, 2, 0] rfl)
            refine g_if_ne (tgt := 78) G dX6_qPartTold_64 rfl (fun c11 => ?_) (fun c11 => ?_)
            · have hf := it_neg c11 hf
              exact J78 _ _ _ hf hM ls (lv_sub hl [2, 3] rfl)
            · have hf := it_pos c11 hf
              refine g_aload_n G dX6_qPartTold_67 rfl (lv_at hl 2 rfl) ?_
              refine g_aload_n G dX6_qPartTold_68 rfl (lv_at hl 2 rfl) ?_
              refine mg_a X hM mf_79 dX6_qPartTold_69 ?_
              obtain ⟨r8, z24, h14, hf⟩ := bnd_open hf
              refine m_callVi (As := [.ref (ad 79)]) (rest := []) X hM hl mc_isHere (c_isHere (mIs.of mf_79) h14) rfl (Nat.le_of_ble_eq_true rfl) (Nat.le_of_ble_eq_true rfl) rfl dX6_qPartTold_72 (fun H locs hM => ?_)
              refine g_if_eq (tgt := 153) G dX6_qPartTold_75 rfl (fun c12 => ?_) (fun c12 => ?_)
              · have hf := it_pos c12 hf
                refine g_iload_n G dX6_qPartTold_153 rfl (lv_at hl 0 rfl) ?_
                refine g_iconst (v := (-1)) G dX6_qPartTold_154 rfl ?_
                refine g_icmp_eq (tgt := 181) G dX6_qPartTold_155 rfl (fun c13 => ?_) (fun c13 => ?_)
                · have hf := it_pos c13 hf
                  refine g_iconst (v := 0) G dX6_qPartTold_181 rfl ?_
                  refine g_istore_n (lv' := [(1, .int 0), (3, .int r4), (2, .int r3), (0, .ref o)]) G dX6_qPartTold_182 rfl hl (Nat.le_of_ble_eq_true rfl) rfl (fun ls hl => ?_)
                  exact J183 _ _ _ _ hf hM ls (lv_sub hl [3, 0] rfl)
                · have hf := it_neg c13 hf
                  refine g_aload_n G dX6_qPartTold_158 rfl (lv_at hl 2 rfl) ?_
                  refine g_bipush (v := 60) G dX6_qPartTold_159 rfl ?_
                  refine g_iload_n G dX6_qPartTold_161 rfl (lv_at hl 0 rfl) ?_
                  refine g_iadd G dX6_qPartTold_162 ?_
                  refine g_bipush (v := 12) G dX6_qPartTold_163 rfl ?_
                  refine g_isub G dX6_qPartTold_165 ?_
                  refine g_aload_n G dX6_qPartTold_166 rfl (lv_at hl 2 rfl) ?_
                  refine mg_i X hM mf_2 dX6_qPartTold_167 ?_
                  obtain ⟨z25, h15, hf⟩ := bnv_open hf
                  refine m_callVv (As := [.int ((60 + r4) - 12), .int (mI z24 2)]) (rest := []) X hM hl mc_qOpens (c_qOpens h15) rfl (Nat.le_of_ble_eq_true rfl) (Nat.le_of_ble_eq_true rfl) rfl dX6_qPartTold_170 (fun H locs hM => ?_)
                  refine g_aload_n G dX6_qPartTold_173 rfl (lv_at hl 2 rfl) ?_
                  refine g_iload_n G dX6_qPartTold_174 rfl (lv_at hl 0 rfl) ?_
                  obtain ⟨z26, h16, hf⟩ := bnv_open hf
                  refine m_callVv (As := [.int r4]) (rest := []) X hM hl mc_qAsksWord (c_qAsksWord h16) rfl (Nat.le_of_ble_eq_true rfl) (Nat.le_of_ble_eq_true rfl) rfl dX6_qPartTold_175 (fun H locs hM => ?_)
                  refine g_goto (tgt := 183) G dX6_qPartTold_178 rfl ?_
                  exact J183 _ _ _ _ hf hM ls (lv_sub hl [2, 3] rfl)
              · have hf := it_neg c12 hf
                exact J78 _ _ _ hf hM ls (lv_sub hl [2, 3] rfl)
          · have hf := it_pos c6 hf
            refine g_aload_n G dX6_qPartTold_33 rfl (lv_at hl 2 rfl) ?_
            refine g_bipush (v := 20) G dX6_qPartTold_34 rfl ?_
            refine g_aload_n G dX6_qPartTold_36 rfl (lv_at hl 2 rfl) ?_
            refine mg_i X hM mf_2 dX6_qPartTold_37 ?_
            obtain ⟨z27, h17, hf⟩ := bnv_open hf
            refine m_callVv (As := [.int 20, .int (mI z11 2)]) (rest := []) X hM hl mc_qOpens (c_qOpens h17) rfl (Nat.le_of_ble_eq_true rfl) (Nat.le_of_ble_eq_true rfl) rfl dX6_qPartTold_40 (fun H locs hM => ?_)
            refine g_aload_n G dX6_qPartTold_43 rfl (lv_at hl 2 rfl) ?_
            refine g_dup G dX6_qPartTold_44 rfl ?_
            refine mg_i X hM mf_2 dX6_qPartTold_45 ?_
            refine g_iconst (v := 1) G dX6_qPartTold_48 rfl ?_
            refine g_iadd G dX6_qPartTold_49 ?_
            obtain ⟨z28, hz28, hf⟩ := nm_open hf
            refine mp_i X hM mf_2 hz28 dX6_qPartTold_50 (fun H locs hM => ?_)
            refine g_goto (tgt := 183) G dX6_qPartTold_53 rfl ?_
            exact J183 _ _ _ _ hf hM ls (lv_sub hl [2, 3] rfl)
  exact L2 FU _ _ _ _ hf hM ls (lv_sub hl [1, 0] rfl)
theorem mc_qIsOn : mcV yX6_qIsOn cX6_qIsOn 2 (some .boolean) 1 594 := ⟨lw_V q2106 q2108 qs90 q157 q2109, ⟨rfl, by decide +kernel, by decide +kernel, by decide +kernel⟩, Nat.le_of_ble_eq_true rfl⟩
noncomputable def m_qIsOn (a1 : Int32) (z : MS) : Option (Bool × MS) :=
  jn (fun (z1 : MS) =>
    some (false, z1)) fun j26 =>
  if (mI z 96) ≤ 0 then
    j26 z
  else
    ck (inb ((mI z 96) - 1) (mN 95)) <|
    if (mA z 95 (Int32.toNatClampNeg ((mI z 96) - 1))) = a1 then
      some (true, z)
    else
      j26 z
set_option maxHeartbeats 1000000 in
theorem c_qIsOn {l : Launch} {D : MD} {o : Nat} {ad : Nat → Nat} {a1 : Int32} {z z' : MS} {r : Bool} (hf : m_qIsOn a1 z = some (r, z')) : MMet l D o ad yX6_qIsOn cX6_qIsOn 2 (some .boolean) 1 [.ref o, .int a1] z z' (some (.int (bI r))) := by
  unfold m_qIsOn at hf
  refine m_head pnX6 rfl (Nat.le_of_ble_eq_true rfl) (fun m Z H0 ls X hM hl => ?_)
  have G := X.g
  have hl : lv_has ls 2 [(0, .ref o), (1, .int a1)] := hl
  refine g_aload_n G dX6_qIsOn_0 rfl (lv_at hl 0 rfl) ?_
  refine mg_i X hM mf_96 dX6_qIsOn_1 ?_
  obtain ⟨j26, hj26, hf⟩ := jn_open hf
  have J26 : ∀ (z1 : MS) (H : Heap) (locs : List Loc), j26 z1 = some (r, z') → MI D o ad H0 z1 H locs → ∀ ls : Array Slot, lv_has ls 2 [] → Z H locs 0 0 (F0 m 26 ls []) := by
    intro z1 H locs hf hM ls hl
    rw [hj26] at hf
    refine g_iconst (v := 0) G dX6_qIsOn_26 rfl ?_
    exact m_zret X hM hf dX6_qIsOn_27
  refine g_if_le (tgt := 26) G dX6_qIsOn_4 rfl (fun c1 => ?_) (fun c1 => ?_)
  · have hf := it_pos c1 hf
    exact J26 _ _ _ hf hM ls (lv_sub hl [] rfl)
  · have hf := it_neg c1 hf
    refine g_aload_n G dX6_qIsOn_7 rfl (lv_at hl 0 rfl) ?_
    refine mg_a X hM mf_95 dX6_qIsOn_8 ?_
    refine g_aload_n G dX6_qIsOn_11 rfl (lv_at hl 0 rfl) ?_
    refine mg_i X hM mf_96 dX6_qIsOn_12 ?_
    refine g_iconst (v := 1) G dX6_qIsOn_15 rfl ?_
    refine g_isub G dX6_qIsOn_16 ?_
    obtain ⟨b1, hf⟩ := ck_open hf
    refine m_iald X hM (mIs.of mf_95) b1 dX6_qIsOn_17 ?_
    refine g_iload_n G dX6_qIsOn_18 rfl (lv_at hl 1 rfl) ?_
    refine g_icmp_ne (tgt := 26) G dX6_qIsOn_19 rfl (fun c2 => ?_) (fun c2 => ?_)
    · have hf := it_neg c2 hf
      exact J26 _ _ _ hf hM ls (lv_sub hl [] rfl)
    · have hf := it_pos c2 hf
      refine g_iconst (v := 1) G dX6_qIsOn_22 rfl ?_
      refine g_goto (tgt := 27) G dX6_qIsOn_23 rfl ?_
      exact m_zret X hM hf dX6_qIsOn_27
theorem mc_qIsBracket : mcS yX6_qIsBracket cX6_qIsBracket 1 (some .boolean) 1 564 := ⟨lw_S q2099 q2100 q157 q2101, ⟨by decide +kernel, by decide +kernel, by decide +kernel⟩, Nat.le_of_ble_eq_true rfl⟩
noncomputable def m_qIsBracket (a1 : Int32) (z : MS) : Option (Bool × MS) :=
  jn (fun (z1 : MS) =>
    some (false, z1)) fun j16 =>
  if a1 < 20 then
    j16 z
  else
    if 24 < a1 then
      j16 z
    else
      some (true, z)
set_option maxHeartbeats 1000000 in
theorem c_qIsBracket {l : Launch} {D : MD} {o : Nat} {ad : Nat → Nat} {a1 : Int32} {z z' : MS} {r : Bool} (hf : m_qIsBracket a1 z = some (r, z')) : MMet l D o ad yX6_qIsBracket cX6_qIsBracket 1 (some .boolean) 1 [.int a1] z z' (some (.int (bI r))) := by
  unfold m_qIsBracket at hf
  refine m_head pnX6 rfl (Nat.le_of_ble_eq_true rfl) (fun m Z H0 ls X hM hl => ?_)
  have G := X.g
  have hl : lv_has ls 1 [(0, .int a1)] := hl
  refine g_iload_n G dX6_qIsBracket_0 rfl (lv_at hl 0 rfl) ?_
  refine g_bipush (v := 20) G dX6_qIsBracket_1 rfl ?_
  obtain ⟨j16, hj16, hf⟩ := jn_open hf
  have J16 : ∀ (z1 : MS) (H : Heap) (locs : List Loc), j16 z1 = some (r, z') → MI D o ad H0 z1 H locs → ∀ ls : Array Slot, lv_has ls 1 [] → Z H locs 0 0 (F0 m 16 ls []) := by
    intro z1 H locs hf hM ls hl
    rw [hj16] at hf
    refine g_iconst (v := 0) G dX6_qIsBracket_16 rfl ?_
    exact m_zret X hM hf dX6_qIsBracket_17
  refine g_icmp_lt (tgt := 16) G dX6_qIsBracket_3 rfl (fun c1 => ?_) (fun c1 => ?_)
  · have hf := it_pos c1 hf
    exact J16 _ _ _ hf hM ls (lv_sub hl [] rfl)
  · have hf := it_neg c1 hf
    refine g_iload_n G dX6_qIsBracket_6 rfl (lv_at hl 0 rfl) ?_
    refine g_bipush (v := 24) G dX6_qIsBracket_7 rfl ?_
    refine g_icmp_gt (tgt := 16) G dX6_qIsBracket_9 rfl (fun c2 => ?_) (fun c2 => ?_)
    · have hf := it_pos c2 hf
      exact J16 _ _ _ hf hM ls (lv_sub hl [] rfl)
    · have hf := it_neg c2 hf
      refine g_iconst (v := 1) G dX6_qIsBracket_12 rfl ?_
      refine g_goto (tgt := 17) G dX6_qIsBracket_13 rfl ?_
      exact m_zret X hM hf dX6_qIsBracket_17
theorem mc_qBracket : mcV yX6_qBracket cX6_qBracket 2 (some .int) 0 588 := ⟨lw_V q2095 q2097 qs88 q157 q2098, ⟨rfl, by decide +kernel, by decide +kernel, by decide +kernel⟩, Nat.le_of_ble_eq_true rfl⟩
noncomputable def m_qBracket_L7 (k33 : Int32 → MS → Option (Int32 × MS)) (s7 : Int32 → MS → Option (Int32 × MS)) (x2 : Int32) (z2 : MS) : Option (Int32 × MS) :=
  if x2 < (mI z2 98) then
    k33 x2 z2
  else
    ck (inb x2 (mN 95)) <|
    bnd (m_qIsBracket (mA z2 95 (Int32.toNatClampNeg x2)) z2) fun r1 z3 =>
    if (bI r1) = 0 then
      s7 (x2 + (-1)) z3
    else
      k33 x2 z3
noncomputable def m_qBracket (z : MS) : Option (Int32 × MS) :=
  jn (fun (x1 : Int32) (z1 : MS) =>
    if x1 < (mI z1 98) then
      some ((-1), z1)
    else
      ck (inb x1 (mN 95)) <|
      some ((mA z1 95 (Int32.toNatClampNeg x1)), z1)) fun k33 =>
  fx (m_qBracket_L7 k33) (fun _ _ => none) FU ((mI z 96) - 1) z
set_option maxHeartbeats 1000000 in
theorem c_qBracket {l : Launch} {D : MD} {o : Nat} {ad : Nat → Nat} {z z' : MS} {r : Int32} (hf : m_qBracket z = some (r, z')) : MMet l D o ad yX6_qBracket cX6_qBracket 2 (some .int) 2 [.ref o] z z' (some (.int r)) := by
  unfold m_qBracket at hf
  refine m_head pnX6 rfl (Nat.le_of_ble_eq_true rfl) (fun m Z H0 ls X hM hl => ?_)
  have G := X.g
  have hl : lv_has ls 2 [(0, .ref o)] := hl
  refine g_aload_n G dX6_qBracket_0 rfl (lv_at hl 0 rfl) ?_
  refine mg_i X hM mf_96 dX6_qBracket_1 ?_
  refine g_iconst (v := 1) G dX6_qBracket_4 rfl ?_
  refine g_isub G dX6_qBracket_5 ?_
  refine g_istore_n (lv' := [(1, .int ((mI z 96) - 1)), (0, .ref o)]) G dX6_qBracket_6 rfl hl (Nat.le_of_ble_eq_true rfl) rfl (fun ls hl => ?_)
  obtain ⟨k33, hk33, hf⟩ := jn_open hf
  have K33 : ∀ (x1 : Int32) (z1 : MS) (H : Heap) (locs : List Loc), k33 x1 z1 = some (r, z') → MI D o ad H0 z1 H locs → ∀ ls : Array Slot, lv_has ls 2 [(0, .ref o), (1, .int x1)] → Z H locs 0 0 (F0 m 33 ls []) := by
    intro x1 z1 H locs hf hM ls hl
    rw [hk33] at hf
    refine g_iload_n G dX6_qBracket_33 rfl (lv_at hl 1 rfl) ?_
    refine g_aload_n G dX6_qBracket_34 rfl (lv_at hl 0 rfl) ?_
    refine mg_i X hM mf_98 dX6_qBracket_35 ?_
    refine g_icmp_lt (tgt := 50) G dX6_qBracket_38 rfl (fun c1 => ?_) (fun c1 => ?_)
    · have hf := it_pos c1 hf
      refine g_iconst (v := (-1)) G dX6_qBracket_50 rfl ?_
      exact m_iret X hM hf dX6_qBracket_51
    · have hf := it_neg c1 hf
      refine g_aload_n G dX6_qBracket_41 rfl (lv_at hl 0 rfl) ?_
      refine mg_a X hM mf_95 dX6_qBracket_42 ?_
      refine g_iload_n G dX6_qBracket_45 rfl (lv_at hl 1 rfl) ?_
      obtain ⟨b1, hf⟩ := ck_open hf
      refine m_iald X hM (mIs.of mf_95) b1 dX6_qBracket_46 ?_
      refine g_goto (tgt := 51) G dX6_qBracket_47 rfl ?_
      exact m_iret X hM hf dX6_qBracket_51
  have L7 : ∀ (n : Nat) (x2 : Int32) (z2 : MS) (H : Heap) (locs : List Loc), fx (m_qBracket_L7 k33) (fun _ _ => none) n x2 z2 = some (r, z') → MI D o ad H0 z2 H locs → ∀ ls : Array Slot, lv_has ls 2 [(0, .ref o), (1, .int x2)] → Z H locs 0 0 (F0 m 7 ls []) := by
    intro n
    induction n with
    | zero => intro x2 z2 H locs hf; exact absurd hf (by intro q; cases q)
    | succ n ih7 =>
      intro x2 z2 H locs hf hM ls hl
      rw [fx_s] at hf
      generalize fx (m_qBracket_L7 k33) (fun _ _ => none) n = s7 at hf ih7
      unfold m_qBracket_L7 at hf
      refine g_iload_n G dX6_qBracket_7 rfl (lv_at hl 1 rfl) ?_
      refine g_aload_n G dX6_qBracket_8 rfl (lv_at hl 0 rfl) ?_
      refine mg_i X hM mf_98 dX6_qBracket_9 ?_
      refine g_icmp_lt (tgt := 33) G dX6_qBracket_12 rfl (fun c2 => ?_) (fun c2 => ?_)
      · have hf := it_pos c2 hf
        exact K33 _ _ _ _ hf hM ls (lv_sub hl [0, 1] rfl)
      · have hf := it_neg c2 hf
        refine g_aload_n G dX6_qBracket_15 rfl (lv_at hl 0 rfl) ?_
        refine mg_a X hM mf_95 dX6_qBracket_16 ?_
        refine g_iload_n G dX6_qBracket_19 rfl (lv_at hl 1 rfl) ?_
        obtain ⟨b2, hf⟩ := ck_open hf
        refine m_iald X hM (mIs.of mf_95) b2 dX6_qBracket_20 ?_
        obtain ⟨r1, z3, h1, hf⟩ := bnd_open hf
        refine m_callSi (As := [.int (mA z2 95 (Int32.toNatClampNeg x2))]) (rest := []) X hM hl mc_qIsBracket (c_qIsBracket h1) rfl (Nat.le_of_ble_eq_true rfl) (Nat.le_of_ble_eq_true rfl) rfl dX6_qBracket_21 (fun H locs hM => ?_)
        refine g_if_ne (tgt := 33) G dX6_qBracket_24 rfl (fun c3 => ?_) (fun c3 => ?_)
        · have hf := it_neg c3 hf
          exact K33 _ _ _ _ hf hM ls (lv_sub hl [0, 1] rfl)
        · have hf := it_pos c3 hf
          refine g_iinc (v := x2 + (-1)) (lv' := [(1, .int (x2 + (-1))), (0, .ref o)]) G dX6_qBracket_27 hl (k := 1) rfl rfl (Nat.le_of_ble_eq_true rfl) rfl (fun ls hl => ?_)
          refine g_goto (tgt := 7) G dX6_qBracket_30 rfl ?_
          exact ih7 _ _ _ _ hf hM ls (lv_sub hl [1, 0] rfl)
  exact L7 FU _ _ _ _ hf hM ls (lv_sub hl [1, 0] rfl)
theorem mc_qDropsToBracket : mcV yX6_qDropsToBracket cX6_qDropsToBracket 1 (none) 0 591 := ⟨lw_V q2102 q2104 qs89 q157 q2105, ⟨rfl, by decide +kernel, by decide +kernel, by decide +kernel⟩, Nat.le_of_ble_eq_true rfl⟩
noncomputable def m_qDropsToBracket_L0 (s0 : MS → Option (MS)) (z1 : MS) : Option (MS) :=
  if (mI z1 96) ≤ (mI z1 98) then
    some z1
  else
    ck (inb ((mI z1 96) - 1) (mN 95)) <|
    bnd (m_qIsBracket (mA z1 95 (Int32.toNatClampNeg ((mI z1 96) - 1))) z1) fun r1 z2 =>
    if (bI r1) = 0 then
      bnv (m_qDrops z2) fun z3 =>
      s0 z3
    else
      some z2
noncomputable def m_qDropsToBracket (z : MS) : Option (MS) :=
  fx m_qDropsToBracket_L0 (fun _ => none) FU  z
set_option maxHeartbeats 1000000 in
theorem c_qDropsToBracket {l : Launch} {D : MD} {o : Nat} {ad : Nat → Nat} {z z' : MS} (hf : m_qDropsToBracket z = some z') : MMet l D o ad yX6_qDropsToBracket cX6_qDropsToBracket 1 (none) 3 [.ref o] z z' (none) := by
  unfold m_qDropsToBracket at hf
  refine m_head pnX6 rfl (Nat.le_of_ble_eq_true rfl) (fun m Z H0 ls X hM hl => ?_)
  have G := X.g
  have hl : lv_has ls 1 [(0, .ref o)] := hl
  have L0 : ∀ (n : Nat) (z1 : MS) (H : Heap) (locs : List Loc), fx m_qDropsToBracket_L0 (fun _ => none) n z1 = some z' → MI D o ad H0 z1 H locs → ∀ ls : Array Slot, lv_has ls 1 [(0, .ref o)] → Z H locs 0 0 (F0 m 0 ls []) := by
    intro n
    induction n with
    | zero => intro z1 H locs hf; exact absurd hf (by intro q; cases q)
    | succ n ih0 =>
      intro z1 H locs hf hM ls hl
      rw [fx_s] at hf
      generalize fx m_qDropsToBracket_L0 (fun _ => none) n = s0 at hf ih0
      unfold m_qDropsToBracket_L0 at hf
      refine g_aload_n G dX6_qDropsToBracket_0 rfl (lv_at hl 0 rfl) ?_
      refine mg_i X hM mf_96 dX6_qDropsToBracket_1 ?_
      refine g_aload_n G dX6_qDropsToBracket_4 rfl (lv_at hl 0 rfl) ?_
      refine mg_i X hM mf_98 dX6_qDropsToBracket_5 ?_
      refine g_icmp_le (tgt := 35) G dX6_qDropsToBracket_8 rfl (fun c1 => ?_) (fun c1 => ?_)
      · have hf := it_pos c1 hf
        exact m_vret X hM hf dX6_qDropsToBracket_35
      · have hf := it_neg c1 hf
        refine g_aload_n G dX6_qDropsToBracket_11 rfl (lv_at hl 0 rfl) ?_
        refine mg_a X hM mf_95 dX6_qDropsToBracket_12 ?_
        refine g_aload_n G dX6_qDropsToBracket_15 rfl (lv_at hl 0 rfl) ?_
        refine mg_i X hM mf_96 dX6_qDropsToBracket_16 ?_
        refine g_iconst (v := 1) G dX6_qDropsToBracket_19 rfl ?_
        refine g_isub G dX6_qDropsToBracket_20 ?_
        obtain ⟨b1, hf⟩ := ck_open hf
        refine m_iald X hM (mIs.of mf_95) b1 dX6_qDropsToBracket_21 ?_
        obtain ⟨r1, z2, h1, hf⟩ := bnd_open hf
        refine m_callSi (As := [.int (mA z1 95 (Int32.toNatClampNeg ((mI z1 96) - 1)))]) (rest := []) X hM hl mc_qIsBracket (c_qIsBracket h1) rfl (Nat.le_of_ble_eq_true rfl) (Nat.le_of_ble_eq_true rfl) rfl dX6_qDropsToBracket_22 (fun H locs hM => ?_)
        refine g_if_ne (tgt := 35) G dX6_qDropsToBracket_25 rfl (fun c2 => ?_) (fun c2 => ?_)
        · have hf := it_neg c2 hf
          exact m_vret X hM hf dX6_qDropsToBracket_35
        · have hf := it_pos c2 hf
          refine g_aload_n G dX6_qDropsToBracket_28 rfl (lv_at hl 0 rfl) ?_
          obtain ⟨z3, h2, hf⟩ := bnv_open hf
          refine m_callVv (As := []) (rest := []) X hM hl mc_qDrops (c_qDrops h2) rfl (Nat.le_of_ble_eq_true rfl) (Nat.le_of_ble_eq_true rfl) rfl dX6_qDropsToBracket_29 (fun H locs hM => ?_)
          refine g_goto (tgt := 0) G dX6_qDropsToBracket_32 rfl ?_
          exact ih0 _ _ _ hf hM ls (lv_sub hl [0] rfl)
  exact L0 FU _ _ _ hf hM ls (lv_sub hl [0] rfl)
theorem mc_qGoesOn : mcV yX6_qGoesOn cX6_qGoesOn 2 (some .boolean) 0 600 := ⟨lw_V q2091 q2093 qs87 q157 q2094, ⟨rfl, by decide +kernel, by decide +kernel, by decide +kernel⟩, Nat.le_of_ble_eq_true rfl⟩
noncomputable def m_qGoesOn_L162 (k185 : MS → Option (Bool × MS)) (s162 : MS → Option (Bool × MS)) (z8 : MS) : Option (Bool × MS) :=
  bnd (m_qIsOn 3 z8) fun r2 z9 =>
  jn (fun (z10 : MS) =>
    bnv (m_qDrops z10) fun z11 =>
    s162 z11) fun j178 =>
  if (bI r2) = 0 then
    bnd (m_qIsOn 4 z9) fun r3 z12 =>
    if (bI r3) = 0 then
      k185 z12
    else
      j178 z12
  else
    j178 z9
noncomputable def m_qGoesOn_L247 (k286 : MS → Option (Bool × MS)) (s247 : MS → Option (Bool × MS)) (z20 : MS) : Option (Bool × MS) :=
  bnd (m_qIsOn 3 z20) fun r6 z21 =>
  jn (fun (z22 : MS) =>
    bnv (m_qDrops z22) fun z23 =>
    s247 z23) fun j279 =>
  if (bI r6) = 0 then
    bnd (m_qIsOn 4 z21) fun r7 z24 =>
    if (bI r7) = 0 then
      bnd (m_qIsOn 1 z24) fun r8 z25 =>
      if (bI r8) = 0 then
        bnd (m_qIsOn 2 z25) fun r9 z26 =>
        if (bI r9) = 0 then
          k286 z26
        else
          j279 z26
      else
        j279 z25
    else
      j279 z24
  else
    j279 z21
noncomputable def m_qGoesOn_L0 (k122 : MS → Option (Bool × MS)) (s0 : MS → Option (Bool × MS)) (z36 : MS) : Option (Bool × MS) :=
  if (mI z36 5) = 0 then
    bnd (m_look z36) fun r14 z37 =>
    if r14 = 41 then
      bnd (m_qBracket z37) fun r15 z38 =>
      jn (fun (z39 : MS) =>
        nm (wI z39 2 ((mI z39 2) + 1)) fun z40 =>
        bnv (m_qDropsToBracket z40) fun z41 =>
        nm (wI z41 96 ((mI z41 96) - 1)) fun z42 =>
        nm (wI z42 97 ((mI z42 97) - 1)) fun z43 =>
        ck (inb (mI z43 96) (mN 95)) <|
        jn (fun (z44 : MS) =>
          bnv (m_qEndsPart z44) fun z45 =>
          s0 z45) fun j115 =>
        if (mA z43 95 (Int32.toNatClampNeg (mI z43 96))) = 20 then
          j115 z43
        else
          ck (inb (mI z43 96) (mN 95)) <|
          jn (fun (x3 : Int32) (z46 : MS) =>
            bnv (m_qCode x3 z46) fun z47 =>
            j115 z47) fun j112 =>
          if (mA z43 95 (Int32.toNatClampNeg (mI z43 96))) = 23 then
            j112 5 z43
          else
            j112 6 z43) fun j43 =>
      if r15 = 20 then
        j43 z38
      else
        bnd (m_qBracket z38) fun r16 z48 =>
        if r16 = 23 then
          j43 z48
        else
          bnd (m_qBracket z48) fun r17 z49 =>
          if r17 = 24 then
            j43 z49
          else
            k122 z49
    else
      k122 z37
  else
    k122 z36
noncomputable def m_qGoesOn (z : MS) : Option (Bool × MS) :=
  jn (fun (z1 : MS) =>
    bnd (m_takesSign 42 z1) fun r1 z2 =>
    jn (fun (z3 : MS) =>
      ck (inb ((mI z3 2) - 1) (mN 0)) <|
      jn (fun (x1 : Int32) (z4 : MS) =>
        jn (fun (z5 : MS) =>
          ck (inb (mI z5 96) (mN 95)) <|
          nm (wA z5 95 (Int32.toNatClampNeg (mI z5 96)) x1) fun z6 =>
          nm (wI z6 96 ((mI z6 96) + 1)) fun z7 =>
          some (true, z7)) fun k185 =>
        fx (m_qGoesOn_L162 k185) (fun _ => none) FU  z4) fun j161 =>
      if (mA z3 0 (Int32.toNatClampNeg ((mI z3 2) - 1))) = 42 then
        j161 3 z3
      else
        j161 4 z3) fun j140 =>
    if (bI r1) = 0 then
      bnd (m_takesSign 47 z2) fun r4 z13 =>
      if (bI r4) = 0 then
        bnd (m_takesSign 43 z13) fun r5 z14 =>
        jn (fun (z15 : MS) =>
          ck (inb ((mI z15 2) - 1) (mN 0)) <|
          jn (fun (x2 : Int32) (z16 : MS) =>
            jn (fun (z17 : MS) =>
              ck (inb (mI z17 96) (mN 95)) <|
              nm (wA z17 95 (Int32.toNatClampNeg (mI z17 96)) x2) fun z18 =>
              nm (wI z18 96 ((mI z18 96) + 1)) fun z19 =>
              some (true, z19)) fun k286 =>
            fx (m_qGoesOn_L247 k286) (fun _ => none) FU  z16) fun j246 =>
          if (mA z15 0 (Int32.toNatClampNeg ((mI z15 2) - 1))) = 43 then
            j246 1 z15
          else
            j246 2 z15) fun j225 =>
        if (bI r5) = 0 then
          bnd (m_takesSign 45 z14) fun r10 z27 =>
          if (bI r10) = 0 then
            bnd (m_qBracket z27) fun r11 z28 =>
            jn (fun (z29 : MS) =>
              bnv (m_asksSign 44 z29) fun z30 =>
              if (mI z30 5) = 0 then
                bnv (m_qDropsToBracket z30) fun z31 =>
                ck (inb ((mI z31 96) - 1) (mN 95)) <|
                ck (inb ((mI z31 96) - 1) (mN 95)) <|
                nm (wA z31 95 (Int32.toNatClampNeg ((mI z31 96) - 1)) ((mA z31 95 (Int32.toNatClampNeg ((mI z31 96) - 1))) + 2)) fun z32 =>
                some (true, z32)
              else
                some (false, z30)) fun j326 =>
            if r11 = 21 then
              j326 z28
            else
              bnd (m_qBracket z28) fun r12 z33 =>
              if r12 = 22 then
                j326 z33
              else
                bnd (m_qBracket z33) fun r13 z34 =>
                if r13 = (-1) then
                  some (false, z34)
                else
                  if (mI z34 5) = 0 then
                    bnv (m_fail 1 (mI z34 2) z34) fun z35 =>
                    some (false, z35)
                  else
                    some (false, z34)
          else
            j225 z27
        else
          j225 z14
      else
        j140 z13
    else
      j140 z2) fun k122 =>
  fx (m_qGoesOn_L0 k122) (fun _ => none) FU  z
set_option maxHeartbeats 1000000 in
theorem c_qGoesOn {l : Launch} {D : MD} {o : Nat} {ad : Nat → Nat} {z z' : MS} {r : Bool} (hf : m_qGoesOn z = some (r, z')) : MMet l D o ad yX6_qGoesOn cX6_qGoesOn 2 (some .boolean) 4 [.ref o] z z' (some (.int (bI r))) := by
  unfold m_qGoesOn at hf
  refine m_head pnX6 rfl (Nat.le_of_ble_eq_true rfl) (fun m Z H0 ls X hM hl => ?_)
  have G := X.g
  have hl : lv_has ls 2 [(0, .ref o)] := hl
  obtain ⟨k122, hk122, hf⟩ := jn_open hf
  have K122 : ∀ (z1 : MS) (H : Heap) (locs : List Loc), k122 z1 = some (r, z') → MI D o ad H0 z1 H locs → ∀ ls : Array Slot, lv_has ls 2 [(0, .ref o)] → Z H locs 0 0 (F0 m 122 ls []) := by
    intro z1 H locs hf hM ls hl
    rw [hk122] at hf
    refine g_aload_n G dX6_qGoesOn_122 rfl (lv_at hl 0 rfl) ?_
    refine g_bipush (v := 42) G dX6_qGoesOn_123 rfl ?_
    obtain ⟨r1, z2, h1, hf⟩ := bnd_open hf
    refine m_callVi (As := [.int 42]) (rest := []) X hM hl mc_takesSign (c_takesSign h1) rfl (Nat.le_of_ble_eq_true rfl) (Nat.le_of_ble_eq_true rfl) rfl dX6_qGoesOn_125 (fun H locs hM => ?_)
    obtain ⟨j140, hj140, hf⟩ := jn_open hf
    have J140 : ∀ (z3 : MS) (H : Heap) (locs : List Loc), j140 z3 = some (r, z') → MI D o ad H0 z3 H locs → ∀ ls : Array Slot, lv_has ls 2 [(0, .ref o)] → Z H locs 0 0 (F0 m 140 ls []) := by
      intro z3 H locs hf hM ls hl
      rw [hj140] at hf
      refine g_aload_n G dX6_qGoesOn_140 rfl (lv_at hl 0 rfl) ?_
      refine mg_a X hM mf_0 dX6_qGoesOn_141 ?_
      refine g_aload_n G dX6_qGoesOn_144 rfl (lv_at hl 0 rfl) ?_
      refine mg_i X hM mf_2 dX6_qGoesOn_145 ?_
      refine g_iconst (v := 1) G dX6_qGoesOn_148 rfl ?_
      refine g_isub G dX6_qGoesOn_149 ?_
      obtain ⟨b1, hf⟩ := ck_open hf
      refine m_iald X hM (mIs.of mf_0) b1 dX6_qGoesOn_150 ?_
      refine g_bipush (v := 42) G dX6_qGoesOn_151 rfl ?_
      obtain ⟨j161, hj161, hf⟩ := jn_open hf
      have J161 : ∀ (x1 : Int32) (z4 : MS) (H : Heap) (locs : List Loc), j161 x1 z4 = some (r, z') → MI D o ad H0 z4 H locs → ∀ ls : Array Slot, lv_has ls 2 [(0, .ref o)] → Z H locs 0 0 (F0 m 161 ls [.int x1]) := by
        intro x1 z4 H locs hf hM ls hl
        rw [hj161] at hf
        refine g_istore_n (lv' := [(1, .int x1), (0, .ref o)]) G dX6_qGoesOn_161 rfl hl (Nat.le_of_ble_eq_true rfl) rfl (fun ls hl => ?_)
        obtain ⟨k185, hk185, hf⟩ := jn_open hf
        have K185 : ∀ (z5 : MS) (H : Heap) (locs : List Loc), k185 z5 = some (r, z') → MI D o ad H0 z5 H locs → ∀ ls : Array Slot, lv_has ls 2 [(0, .ref o), (1, .int x1)] → Z H locs 0 0 (F0 m 185 ls []) := by
          intro z5 H locs hf hM ls hl
          rw [hk185] at hf
          refine g_aload_n G dX6_qGoesOn_185 rfl (lv_at hl 0 rfl) ?_
          refine mg_a X hM mf_95 dX6_qGoesOn_186 ?_
          refine g_aload_n G dX6_qGoesOn_189 rfl (lv_at hl 0 rfl) ?_
          refine mg_i X hM mf_96 dX6_qGoesOn_190 ?_
          refine g_iload_n G dX6_qGoesOn_193 rfl (lv_at hl 1 rfl) ?_
          obtain ⟨b2, hf⟩ := ck_open hf
          obtain ⟨z6, hz6, hf⟩ := nm_open hf
          refine m_iast X hM (mIs.of mf_95) b2 hz6 dX6_qGoesOn_194 (fun H locs hM => ?_)
          refine g_aload_n G dX6_qGoesOn_195 rfl (lv_at hl 0 rfl) ?_
          refine g_dup G dX6_qGoesOn_196 rfl ?_
          refine mg_i X hM mf_96 dX6_qGoesOn_197 ?_
          refine g_iconst (v := 1) G dX6_qGoesOn_200 rfl ?_
          refine g_iadd G dX6_qGoesOn_201 ?_
          obtain ⟨z7, hz7, hf⟩ := nm_open hf
          refine mp_i X hM mf_96 hz7 dX6_qGoesOn_202 (fun H locs hM => ?_)
          refine g_iconst (v := 1) G dX6_qGoesOn_205 rfl ?_
          exact m_zret X hM hf dX6_qGoesOn_206
        have L162 : ∀ (n : Nat) (z8 : MS) (H : Heap) (locs : List Loc), fx (m_qGoesOn_L162 k185) (fun _ => none) n z8 = some (r, z') → MI D o ad H0 z8 H locs → ∀ ls : Array Slot, lv_has ls 2 [(0, .ref o), (1, .int x1)] → Z H locs 0 0 (F0 m 162 ls []) := by
          intro n
          induction n with
          | zero => intro z8 H locs hf; exact absurd hf (by intro q; cases q)
          | succ n ih162 =>
            intro z8 H locs hf hM ls hl
            rw [fx_s] at hf
            generalize fx (m_qGoesOn_L162 k185) (fun _ => none) n = s162 at hf ih162
            unfold m_qGoesOn_L162 at hf
            refine g_aload_n G dX6_qGoesOn_162 rfl (lv_at hl 0 rfl) ?_
            refine g_iconst (v := 3) G dX6_qGoesOn_163 rfl ?_
            obtain ⟨r2, z9, h2, hf⟩ := bnd_open hf
            refine m_callVi (As := [.int 3]) (rest := []) X hM hl mc_qIsOn (c_qIsOn h2) rfl (Nat.le_of_ble_eq_true rfl) (Nat.le_of_ble_eq_true rfl) rfl dX6_qGoesOn_164 (fun H locs hM => ?_)
            obtain ⟨j178, hj178, hf⟩ := jn_open hf
            have J178 : ∀ (z10 : MS) (H : Heap) (locs : List Loc), j178 z10 = some (r, z') → MI D o ad H0 z10 H locs → ∀ ls : Array Slot, lv_has ls 2 [(0, .ref o), (1, .int x1)] → Z H locs 0 0 (F0 m 178 ls []) := by
              intro z10 H locs hf hM ls hl
              rw [hj178] at hf
              refine g_aload_n G dX6_qGoesOn_178 rfl (lv_at hl 0 rfl) ?_
              obtain ⟨z11, h3, hf⟩ := bnv_open hf
              refine m_callVv (As := []) (rest := []) X hM hl mc_qDrops (c_qDrops h3) rfl (Nat.le_of_ble_eq_true rfl) (Nat.le_of_ble_eq_true rfl) rfl dX6_qGoesOn_179 (fun H locs hM => ?_)
              refine g_goto (tgt := 162) G dX6_qGoesOn_182 rfl ?_
              exact ih162 _ _ _ hf hM ls (lv_sub hl [0, 1] rfl)
            refine g_if_ne (tgt := 178) G dX6_qGoesOn_167 rfl (fun c1 => ?_) (fun c1 => ?_)
            · have hf := it_neg c1 hf
              exact J178 _ _ _ hf hM ls (lv_sub hl [0, 1] rfl)
            · have hf := it_pos c1 hf
              refine g_aload_n G dX6_qGoesOn_170 rfl (lv_at hl 0 rfl) ?_
              refine g_iconst (v := 4) G dX6_qGoesOn_171 rfl ?_
              obtain ⟨r3, z12, h4, hf⟩ := bnd_open hf
              refine m_callVi (As := [.int 4]) (rest := []) X hM hl mc_qIsOn (c_qIsOn h4) rfl (Nat.le_of_ble_eq_true rfl) (Nat.le_of_ble_eq_true rfl) rfl dX6_qGoesOn_172 (fun H locs hM => ?_)
              refine g_if_eq (tgt := 185) G dX6_qGoesOn_175 rfl (fun c2 => ?_) (fun c2 => ?_)
              · have hf := it_pos c2 hf
                exact K185 _ _ _ hf hM ls (lv_sub hl [0, 1] rfl)
              · have hf := it_neg c2 hf
                exact J178 _ _ _ hf hM ls (lv_sub hl [0, 1] rfl)
        exact L162 FU _ _ _ hf hM ls (lv_sub hl [1, 0] rfl)
      refine g_icmp_ne (tgt := 160) G dX6_qGoesOn_153 rfl (fun c3 => ?_) (fun c3 => ?_)
      · have hf := it_neg c3 hf
        refine g_iconst (v := 4) G dX6_qGoesOn_160 rfl ?_
        exact J161 _ _ _ _ hf hM ls (lv_sub hl [0] rfl)
      · have hf := it_pos c3 hf
        refine g_iconst (v := 3) G dX6_qGoesOn_156 rfl ?_
        refine g_goto (tgt := 161) G dX6_qGoesOn_157 rfl ?_
        exact J161 _ _ _ _ hf hM ls (lv_sub hl [0] rfl)
    refine g_if_ne (tgt := 140) G dX6_qGoesOn_128 rfl (fun c4 => ?_) (fun c4 => ?_)
    · have hf := it_neg c4 hf
      exact J140 _ _ _ hf hM ls (lv_sub hl [0] rfl)
    · have hf := it_pos c4 hf
      refine g_aload_n G dX6_qGoesOn_131 rfl (lv_at hl 0 rfl) ?_
      refine g_bipush (v := 47) G dX6_qGoesOn_132 rfl ?_
      obtain ⟨r4, z13, h5, hf⟩ := bnd_open hf
      refine m_callVi (As := [.int 47]) (rest := []) X hM hl mc_takesSign (c_takesSign h5) rfl (Nat.le_of_ble_eq_true rfl) (Nat.le_of_ble_eq_true rfl) rfl dX6_qGoesOn_134 (fun H locs hM => ?_)
      refine g_if_eq (tgt := 207) G dX6_qGoesOn_137 rfl (fun c5 => ?_) (fun c5 => ?_)
      · have hf := it_pos c5 hf
        refine g_aload_n G dX6_qGoesOn_207 rfl (lv_at hl 0 rfl) ?_
        refine g_bipush (v := 43) G dX6_qGoesOn_208 rfl ?_
        obtain ⟨r5, z14, h6, hf⟩ := bnd_open hf
        refine m_callVi (As := [.int 43]) (rest := []) X hM hl mc_takesSign (c_takesSign h6) rfl (Nat.le_of_ble_eq_true rfl) (Nat.le_of_ble_eq_true rfl) rfl dX6_qGoesOn_210 (fun H locs hM => ?_)
        obtain ⟨j225, hj225, hf⟩ := jn_open hf
        have J225 : ∀ (z15 : MS) (H : Heap) (locs : List Loc), j225 z15 = some (r, z') → MI D o ad H0 z15 H locs → ∀ ls : Array Slot, lv_has ls 2 [(0, .ref o)] → Z H locs 0 0 (F0 m 225 ls []) := by
          intro z15 H locs hf hM ls hl
          rw [hj225] at hf
          refine g_aload_n G dX6_qGoesOn_225 rfl (lv_at hl 0 rfl) ?_
          refine mg_a X hM mf_0 dX6_qGoesOn_226 ?_
          refine g_aload_n G dX6_qGoesOn_229 rfl (lv_at hl 0 rfl) ?_
          refine mg_i X hM mf_2 dX6_qGoesOn_230 ?_
          refine g_iconst (v := 1) G dX6_qGoesOn_233 rfl ?_
          refine g_isub G dX6_qGoesOn_234 ?_
          obtain ⟨b3, hf⟩ := ck_open hf
          refine m_iald X hM (mIs.of mf_0) b3 dX6_qGoesOn_235 ?_
          refine g_bipush (v := 43) G dX6_qGoesOn_236 rfl ?_
          obtain ⟨j246, hj246, hf⟩ := jn_open hf
          have J246 : ∀ (x2 : Int32) (z16 : MS) (H : Heap) (locs : List Loc), j246 x2 z16 = some (r, z') → MI D o ad H0 z16 H locs → ∀ ls : Array Slot, lv_has ls 2 [(0, .ref o)] → Z H locs 0 0 (F0 m 246 ls [.int x2]) := by
            intro x2 z16 H locs hf hM ls hl
            rw [hj246] at hf
            refine g_istore_n (lv' := [(1, .int x2), (0, .ref o)]) G dX6_qGoesOn_246 rfl hl (Nat.le_of_ble_eq_true rfl) rfl (fun ls hl => ?_)
            obtain ⟨k286, hk286, hf⟩ := jn_open hf
            have K286 : ∀ (z17 : MS) (H : Heap) (locs : List Loc), k286 z17 = some (r, z') → MI D o ad H0 z17 H locs → ∀ ls : Array Slot, lv_has ls 2 [(0, .ref o), (1, .int x2)] → Z H locs 0 0 (F0 m 286 ls []) := by
              intro z17 H locs hf hM ls hl
              rw [hk286] at hf
              refine g_aload_n G dX6_qGoesOn_286 rfl (lv_at hl 0 rfl) ?_
              refine mg_a X hM mf_95 dX6_qGoesOn_287 ?_
              refine g_aload_n G dX6_qGoesOn_290 rfl (lv_at hl 0 rfl) ?_
              refine mg_i X hM mf_96 dX6_qGoesOn_291 ?_
              refine g_iload_n G dX6_qGoesOn_294 rfl (lv_at hl 1 rfl) ?_
              obtain ⟨b4, hf⟩ := ck_open hf
              obtain ⟨z18, hz18, hf⟩ := nm_open hf
              refine m_iast X hM (mIs.of mf_95) b4 hz18 dX6_qGoesOn_295 (fun H locs hM => ?_)
              refine g_aload_n G dX6_qGoesOn_296 rfl (lv_at hl 0 rfl) ?_
              refine g_dup G dX6_qGoesOn_297 rfl ?_
              refine mg_i X hM mf_96 dX6_qGoesOn_298 ?_
              refine g_iconst (v := 1) G dX6_qGoesOn_301 rfl ?_
              refine g_iadd G dX6_qGoesOn_302 ?_
              obtain ⟨z19, hz19, hf⟩ := nm_open hf
              refine mp_i X hM mf_96 hz19 dX6_qGoesOn_303 (fun H locs hM => ?_)
              refine g_iconst (v := 1) G dX6_qGoesOn_306 rfl ?_
              exact m_zret X hM hf dX6_qGoesOn_307
            have L247 : ∀ (n : Nat) (z20 : MS) (H : Heap) (locs : List Loc), fx (m_qGoesOn_L247 k286) (fun _ => none) n z20 = some (r, z') → MI D o ad H0 z20 H locs → ∀ ls : Array Slot, lv_has ls 2 [(0, .ref o), (1, .int x2)] → Z H locs 0 0 (F0 m 247 ls []) := by
              intro n
              induction n with
              | zero => intro z20 H locs hf; exact absurd hf (by intro q; cases q)
              | succ n ih247 =>
                intro z20 H locs hf hM ls hl
                rw [fx_s] at hf
                generalize fx (m_qGoesOn_L247 k286) (fun _ => none) n = s247 at hf ih247
                unfold m_qGoesOn_L247 at hf
                refine g_aload_n G dX6_qGoesOn_247 rfl (lv_at hl 0 rfl) ?_
                refine g_iconst (v := 3) G dX6_qGoesOn_248 rfl ?_
                obtain ⟨r6, z21, h7, hf⟩ := bnd_open hf
                refine m_callVi (As := [.int 3]) (rest := []) X hM hl mc_qIsOn (c_qIsOn h7) rfl (Nat.le_of_ble_eq_true rfl) (Nat.le_of_ble_eq_true rfl) rfl dX6_qGoesOn_249 (fun H locs hM => ?_)
                obtain ⟨j279, hj279, hf⟩ := jn_open hf
                have J279 : ∀ (z22 : MS) (H : Heap) (locs : List Loc), j279 z22 = some (r, z') → MI D o ad H0 z22 H locs → ∀ ls : Array Slot, lv_has ls 2 [(0, .ref o), (1, .int x2)] → Z H locs 0 0 (F0 m 279 ls []) := by
                  intro z22 H locs hf hM ls hl
                  rw [hj279] at hf
                  refine g_aload_n G dX6_qGoesOn_279 rfl (lv_at hl 0 rfl) ?_
                  obtain ⟨z23, h8, hf⟩ := bnv_open hf
                  refine m_callVv (As := []) (rest := []) X hM hl mc_qDrops (c_qDrops h8) rfl (Nat.le_of_ble_eq_true rfl) (Nat.le_of_ble_eq_true rfl) rfl dX6_qGoesOn_280 (fun H locs hM => ?_)
                  refine g_goto (tgt := 247) G dX6_qGoesOn_283 rfl ?_
                  exact ih247 _ _ _ hf hM ls (lv_sub hl [0, 1] rfl)
                refine g_if_ne (tgt := 279) G dX6_qGoesOn_252 rfl (fun c6 => ?_) (fun c6 => ?_)
                · have hf := it_neg c6 hf
                  exact J279 _ _ _ hf hM ls (lv_sub hl [0, 1] rfl)
                · have hf := it_pos c6 hf
                  refine g_aload_n G dX6_qGoesOn_255 rfl (lv_at hl 0 rfl) ?_
                  refine g_iconst (v := 4) G dX6_qGoesOn_256 rfl ?_
                  obtain ⟨r7, z24, h9, hf⟩ := bnd_open hf
                  refine m_callVi (As := [.int 4]) (rest := []) X hM hl mc_qIsOn (c_qIsOn h9) rfl (Nat.le_of_ble_eq_true rfl) (Nat.le_of_ble_eq_true rfl) rfl dX6_qGoesOn_257 (fun H locs hM => ?_)
                  refine g_if_ne (tgt := 279) G dX6_qGoesOn_260 rfl (fun c7 => ?_) (fun c7 => ?_)
                  · have hf := it_neg c7 hf
                    exact J279 _ _ _ hf hM ls (lv_sub hl [0, 1] rfl)
                  · have hf := it_pos c7 hf
                    refine g_aload_n G dX6_qGoesOn_263 rfl (lv_at hl 0 rfl) ?_
                    refine g_iconst (v := 1) G dX6_qGoesOn_264 rfl ?_
                    obtain ⟨r8, z25, h10, hf⟩ := bnd_open hf
                    refine m_callVi (As := [.int 1]) (rest := []) X hM hl mc_qIsOn (c_qIsOn h10) rfl (Nat.le_of_ble_eq_true rfl) (Nat.le_of_ble_eq_true rfl) rfl dX6_qGoesOn_265 (fun H locs hM => ?_)
                    refine g_if_ne (tgt := 279) G dX6_qGoesOn_268 rfl (fun c8 => ?_) (fun c8 => ?_)
                    · have hf := it_neg c8 hf
                      exact J279 _ _ _ hf hM ls (lv_sub hl [0, 1] rfl)
                    · have hf := it_pos c8 hf
                      refine g_aload_n G dX6_qGoesOn_271 rfl (lv_at hl 0 rfl) ?_
                      refine g_iconst (v := 2) G dX6_qGoesOn_272 rfl ?_
                      obtain ⟨r9, z26, h11, hf⟩ := bnd_open hf
                      refine m_callVi (As := [.int 2]) (rest := []) X hM hl mc_qIsOn (c_qIsOn h11) rfl (Nat.le_of_ble_eq_true rfl) (Nat.le_of_ble_eq_true rfl) rfl dX6_qGoesOn_273 (fun H locs hM => ?_)
                      refine g_if_eq (tgt := 286) G dX6_qGoesOn_276 rfl (fun c9 => ?_) (fun c9 => ?_)
                      · have hf := it_pos c9 hf
                        exact K286 _ _ _ hf hM ls (lv_sub hl [0, 1] rfl)
                      · have hf := it_neg c9 hf
                        exact J279 _ _ _ hf hM ls (lv_sub hl [0, 1] rfl)
            exact L247 FU _ _ _ hf hM ls (lv_sub hl [1, 0] rfl)
          refine g_icmp_ne (tgt := 245) G dX6_qGoesOn_238 rfl (fun c10 => ?_) (fun c10 => ?_)
          · have hf := it_neg c10 hf
            refine g_iconst (v := 2) G dX6_qGoesOn_245 rfl ?_
            exact J246 _ _ _ _ hf hM ls (lv_sub hl [0] rfl)
          · have hf := it_pos c10 hf
            refine g_iconst (v := 1) G dX6_qGoesOn_241 rfl ?_
            refine g_goto (tgt := 246) G dX6_qGoesOn_242 rfl ?_
            exact J246 _ _ _ _ hf hM ls (lv_sub hl [0] rfl)
        refine g_if_ne (tgt := 225) G dX6_qGoesOn_213 rfl (fun c11 => ?_) (fun c11 => ?_)
        · have hf := it_neg c11 hf
          exact J225 _ _ _ hf hM ls (lv_sub hl [0] rfl)
        · have hf := it_pos c11 hf
          refine g_aload_n G dX6_qGoesOn_216 rfl (lv_at hl 0 rfl) ?_
          refine g_bipush (v := 45) G dX6_qGoesOn_217 rfl ?_
          obtain ⟨r10, z27, h12, hf⟩ := bnd_open hf
          refine m_callVi (As := [.int 45]) (rest := []) X hM hl mc_takesSign (c_takesSign h12) rfl (Nat.le_of_ble_eq_true rfl) (Nat.le_of_ble_eq_true rfl) rfl dX6_qGoesOn_219 (fun H locs hM => ?_)
          refine g_if_eq (tgt := 308) G dX6_qGoesOn_222 rfl (fun c12 => ?_) (fun c12 => ?_)
          · have hf := it_pos c12 hf
            refine g_aload_n G dX6_qGoesOn_308 rfl (lv_at hl 0 rfl) ?_
            obtain ⟨r11, z28, h13, hf⟩ := bnd_open hf
            refine m_callVi (As := []) (rest := []) X hM hl mc_qBracket (c_qBracket h13) rfl (Nat.le_of_ble_eq_true rfl) (Nat.le_of_ble_eq_true rfl) rfl dX6_qGoesOn_309 (fun H locs hM => ?_)
            refine g_bipush (v := 21) G dX6_qGoesOn_312 rfl ?_
            obtain ⟨j326, hj326, hf⟩ := jn_open hf
            have J326 : ∀ (z29 : MS) (H : Heap) (locs : List Loc), j326 z29 = some (r, z') → MI D o ad H0 z29 H locs → ∀ ls : Array Slot, lv_has ls 2 [(0, .ref o)] → Z H locs 0 0 (F0 m 326 ls []) := by
              intro z29 H locs hf hM ls hl
              rw [hj326] at hf
              refine g_aload_n G dX6_qGoesOn_326 rfl (lv_at hl 0 rfl) ?_
              refine g_bipush (v := 44) G dX6_qGoesOn_327 rfl ?_
              obtain ⟨z30, h14, hf⟩ := bnv_open hf
              refine m_callVv (As := [.int 44]) (rest := []) X hM hl mc_asksSign (c_asksSign h14) rfl (Nat.le_of_ble_eq_true rfl) (Nat.le_of_ble_eq_true rfl) rfl dX6_qGoesOn_329 (fun H locs hM => ?_)
              refine g_aload_n G dX6_qGoesOn_332 rfl (lv_at hl 0 rfl) ?_
              refine mg_i X hM mf_5 dX6_qGoesOn_333 ?_
              refine g_if_eq (tgt := 341) G dX6_qGoesOn_336 rfl (fun c13 => ?_) (fun c13 => ?_)
              · have hf := it_pos c13 hf
                refine g_aload_n G dX6_qGoesOn_341 rfl (lv_at hl 0 rfl) ?_
                obtain ⟨z31, h15, hf⟩ := bnv_open hf
                refine m_callVv (As := []) (rest := []) X hM hl mc_qDropsToBracket (c_qDropsToBracket h15) rfl (Nat.le_of_ble_eq_true rfl) (Nat.le_of_ble_eq_true rfl) rfl dX6_qGoesOn_342 (fun H locs hM => ?_)
                refine g_aload_n G dX6_qGoesOn_345 rfl (lv_at hl 0 rfl) ?_
                refine mg_a X hM mf_95 dX6_qGoesOn_346 ?_
                refine g_aload_n G dX6_qGoesOn_349 rfl (lv_at hl 0 rfl) ?_
                refine mg_i X hM mf_96 dX6_qGoesOn_350 ?_
                refine g_iconst (v := 1) G dX6_qGoesOn_353 rfl ?_
                refine g_isub G dX6_qGoesOn_354 ?_
                refine g_dup2_11 G dX6_qGoesOn_355 rfl rfl ?_
                obtain ⟨b5, hf⟩ := ck_open hf
                refine m_iald X hM (mIs.of mf_95) b5 dX6_qGoesOn_356 ?_
                refine g_iconst (v := 2) G dX6_qGoesOn_357 rfl ?_
                refine g_iadd G dX6_qGoesOn_358 ?_
                obtain ⟨b6, hf⟩ := ck_open hf
                obtain ⟨z32, hz32, hf⟩ := nm_open hf
                refine m_iast X hM (mIs.of mf_95) b6 hz32 dX6_qGoesOn_359 (fun H locs hM => ?_)
                refine g_iconst (v := 1) G dX6_qGoesOn_360 rfl ?_
                exact m_zret X hM hf dX6_qGoesOn_361
              · have hf := it_neg c13 hf
                refine g_iconst (v := 0) G dX6_qGoesOn_339 rfl ?_
                exact m_zret X hM hf dX6_qGoesOn_340
            refine g_icmp_eq (tgt := 326) G dX6_qGoesOn_314 rfl (fun c14 => ?_) (fun c14 => ?_)
            · have hf := it_pos c14 hf
              exact J326 _ _ _ hf hM ls (lv_sub hl [0] rfl)
            · have hf := it_neg c14 hf
              refine g_aload_n G dX6_qGoesOn_317 rfl (lv_at hl 0 rfl) ?_
              obtain ⟨r12, z33, h16, hf⟩ := bnd_open hf
              refine m_callVi (As := []) (rest := []) X hM hl mc_qBracket (c_qBracket h16) rfl (Nat.le_of_ble_eq_true rfl) (Nat.le_of_ble_eq_true rfl) rfl dX6_qGoesOn_318 (fun H locs hM => ?_)
              refine g_bipush (v := 22) G dX6_qGoesOn_321 rfl ?_
              refine g_icmp_ne (tgt := 362) G dX6_qGoesOn_323 rfl (fun c15 => ?_) (fun c15 => ?_)
              · have hf := it_neg c15 hf
                refine g_aload_n G dX6_qGoesOn_362 rfl (lv_at hl 0 rfl) ?_
                obtain ⟨r13, z34, h17, hf⟩ := bnd_open hf
                refine m_callVi (As := []) (rest := []) X hM hl mc_qBracket (c_qBracket h17) rfl (Nat.le_of_ble_eq_true rfl) (Nat.le_of_ble_eq_true rfl) rfl dX6_qGoesOn_363 (fun H locs hM => ?_)
                refine g_iconst (v := (-1)) G dX6_qGoesOn_366 rfl ?_
                refine g_icmp_eq (tgt := 386) G dX6_qGoesOn_367 rfl (fun c16 => ?_) (fun c16 => ?_)
                · have hf := it_pos c16 hf
                  refine g_iconst (v := 0) G dX6_qGoesOn_386 rfl ?_
                  exact m_zret X hM hf dX6_qGoesOn_387
                · have hf := it_neg c16 hf
                  refine g_aload_n G dX6_qGoesOn_370 rfl (lv_at hl 0 rfl) ?_
                  refine mg_i X hM mf_5 dX6_qGoesOn_371 ?_
                  refine g_if_ne (tgt := 386) G dX6_qGoesOn_374 rfl (fun c17 => ?_) (fun c17 => ?_)
                  · have hf := it_neg c17 hf
                    refine g_iconst (v := 0) G dX6_qGoesOn_386 rfl ?_
                    exact m_zret X hM hf dX6_qGoesOn_387
                  · have hf := it_pos c17 hf
                    refine g_aload_n G dX6_qGoesOn_377 rfl (lv_at hl 0 rfl) ?_
                    refine g_iconst (v := 1) G dX6_qGoesOn_378 rfl ?_
                    refine g_aload_n G dX6_qGoesOn_379 rfl (lv_at hl 0 rfl) ?_
                    refine mg_i X hM mf_2 dX6_qGoesOn_380 ?_
                    obtain ⟨z35, h18, hf⟩ := bnv_open hf
                    refine m_callVv (As := [.int 1, .int (mI z34 2)]) (rest := []) X hM hl mc_fail (c_fail h18) rfl (Nat.le_of_ble_eq_true rfl) (Nat.le_of_ble_eq_true rfl) rfl dX6_qGoesOn_383 (fun H locs hM => ?_)
                    refine g_iconst (v := 0) G dX6_qGoesOn_386 rfl ?_
                    exact m_zret X hM hf dX6_qGoesOn_387
              · have hf := it_pos c15 hf
                exact J326 _ _ _ hf hM ls (lv_sub hl [0] rfl)
          · have hf := it_neg c12 hf
            exact J225 _ _ _ hf hM ls (lv_sub hl [0] rfl)
      · have hf := it_neg c5 hf
        exact J140 _ _ _ hf hM ls (lv_sub hl [0] rfl)
  have L0 : ∀ (n : Nat) (z36 : MS) (H : Heap) (locs : List Loc), fx (m_qGoesOn_L0 k122) (fun _ => none) n z36 = some (r, z') → MI D o ad H0 z36 H locs → ∀ ls : Array Slot, lv_has ls 2 [(0, .ref o)] → Z H locs 0 0 (F0 m 0 ls []) := by
    intro n
    induction n with
    | zero => intro z36 H locs hf; exact absurd hf (by intro q; cases q)
    | succ n ih0 =>
      intro z36 H locs hf hM ls hl
      rw [fx_s] at hf
      generalize fx (m_qGoesOn_L0 k122) (fun _ => none) n = s0 at hf ih0
      unfold m_qGoesOn_L0 at hf
      refine g_aload_n G dX6_qGoesOn_0 rfl (lv_at hl 0 rfl) ?_
      refine mg_i X hM mf_5 dX6_qGoesOn_1 ?_
      refine g_if_ne (tgt := 122) G dX6_qGoesOn_4 rfl (fun c18 => ?_) (fun c18 => ?_)
      · have hf := it_neg c18 hf
        exact K122 _ _ _ hf hM ls (lv_sub hl [0] rfl)
      · have hf := it_pos c18 hf
        refine g_aload_n G dX6_qGoesOn_7 rfl (lv_at hl 0 rfl) ?_
        obtain ⟨r14, z37, h19, hf⟩ := bnd_open hf
        refine m_callVi (As := []) (rest := []) X hM hl mc_look (c_look h19) rfl (Nat.le_of_ble_eq_true rfl) (Nat.le_of_ble_eq_true rfl) rfl dX6_qGoesOn_8 (fun H locs hM => ?_)
        refine g_bipush (v := 41) G dX6_qGoesOn_11 rfl ?_
        refine g_icmp_ne (tgt := 122) G dX6_qGoesOn_13 rfl (fun c19 => ?_) (fun c19 => ?_)
        · have hf := it_neg c19 hf
          exact K122 _ _ _ hf hM ls (lv_sub hl [0] rfl)
        · have hf := it_pos c19 hf
          refine g_aload_n G dX6_qGoesOn_16 rfl (lv_at hl 0 rfl) ?_
          obtain ⟨r15, z38, h20, hf⟩ := bnd_open hf
          refine m_callVi (As := []) (rest := []) X hM hl mc_qBracket (c_qBracket h20) rfl (Nat.le_of_ble_eq_true rfl) (Nat.le_of_ble_eq_true rfl) rfl dX6_qGoesOn_17 (fun H locs hM => ?_)
          refine g_bipush (v := 20) G dX6_qGoesOn_20 rfl ?_
          obtain ⟨j43, hj43, hf⟩ := jn_open hf
          have J43 : ∀ (z39 : MS) (H : Heap) (locs : List Loc), j43 z39 = some (r, z') → MI D o ad H0 z39 H locs → ∀ ls : Array Slot, lv_has ls 2 [(0, .ref o)] → Z H locs 0 0 (F0 m 43 ls []) := by
            intro z39 H locs hf hM ls hl
            rw [hj43] at hf
            refine g_aload_n G dX6_qGoesOn_43 rfl (lv_at hl 0 rfl) ?_
            refine g_dup G dX6_qGoesOn_44 rfl ?_
            refine mg_i X hM mf_2 dX6_qGoesOn_45 ?_
            refine g_iconst (v := 1) G dX6_qGoesOn_48 rfl ?_
            refine g_iadd G dX6_qGoesOn_49 ?_
            obtain ⟨z40, hz40, hf⟩ := nm_open hf
            refine mp_i X hM mf_2 hz40 dX6_qGoesOn_50 (fun H locs hM => ?_)
            refine g_aload_n G dX6_qGoesOn_53 rfl (lv_at hl 0 rfl) ?_
            obtain ⟨z41, h21, hf⟩ := bnv_open hf
            refine m_callVv (As := []) (rest := []) X hM hl mc_qDropsToBracket (c_qDropsToBracket h21) rfl (Nat.le_of_ble_eq_true rfl) (Nat.le_of_ble_eq_true rfl) rfl dX6_qGoesOn_54 (fun H locs hM => ?_)
            refine g_aload_n G dX6_qGoesOn_57 rfl (lv_at hl 0 rfl) ?_
            refine g_dup G dX6_qGoesOn_58 rfl ?_
            refine mg_i X hM mf_96 dX6_qGoesOn_59 ?_
            refine g_iconst (v := 1) G dX6_qGoesOn_62 rfl ?_
            refine g_isub G dX6_qGoesOn_63 ?_
            obtain ⟨z42, hz42, hf⟩ := nm_open hf
            refine mp_i X hM mf_96 hz42 dX6_qGoesOn_64 (fun H locs hM => ?_)
            refine g_aload_n G dX6_qGoesOn_67 rfl (lv_at hl 0 rfl) ?_
            refine g_dup G dX6_qGoesOn_68 rfl ?_
            refine mg_i X hM mf_97 dX6_qGoesOn_69 ?_
            refine g_iconst (v := 1) G dX6_qGoesOn_72 rfl ?_
            refine g_isub G dX6_qGoesOn_73 ?_
            obtain ⟨z43, hz43, hf⟩ := nm_open hf
            refine mp_i X hM mf_97 hz43 dX6_qGoesOn_74 (fun H locs hM => ?_)
            refine g_aload_n G dX6_qGoesOn_77 rfl (lv_at hl 0 rfl) ?_
            refine mg_a X hM mf_95 dX6_qGoesOn_78 ?_
            refine g_aload_n G dX6_qGoesOn_81 rfl (lv_at hl 0 rfl) ?_
            refine mg_i X hM mf_96 dX6_qGoesOn_82 ?_
            obtain ⟨b7, hf⟩ := ck_open hf
            refine m_iald X hM (mIs.of mf_95) b7 dX6_qGoesOn_85 ?_
            refine g_bipush (v := 20) G dX6_qGoesOn_86 rfl ?_
            obtain ⟨j115, hj115, hf⟩ := jn_open hf
            have J115 : ∀ (z44 : MS) (H : Heap) (locs : List Loc), j115 z44 = some (r, z') → MI D o ad H0 z44 H locs → ∀ ls : Array Slot, lv_has ls 2 [(0, .ref o)] → Z H locs 0 0 (F0 m 115 ls []) := by
              intro z44 H locs hf hM ls hl
              rw [hj115] at hf
              refine g_aload_n G dX6_qGoesOn_115 rfl (lv_at hl 0 rfl) ?_
              obtain ⟨z45, h22, hf⟩ := bnv_open hf
              refine m_callVv (As := []) (rest := []) X hM hl mc_qEndsPart (c_qEndsPart h22) rfl (Nat.le_of_ble_eq_true rfl) (Nat.le_of_ble_eq_true rfl) rfl dX6_qGoesOn_116 (fun H locs hM => ?_)
              refine g_goto (tgt := 0) G dX6_qGoesOn_119 rfl ?_
              exact ih0 _ _ _ hf hM ls (lv_sub hl [0] rfl)
            refine g_icmp_eq (tgt := 115) G dX6_qGoesOn_88 rfl (fun c20 => ?_) (fun c20 => ?_)
            · have hf := it_pos c20 hf
              exact J115 _ _ _ hf hM ls (lv_sub hl [0] rfl)
            · have hf := it_neg c20 hf
              refine g_aload_n G dX6_qGoesOn_91 rfl (lv_at hl 0 rfl) ?_
              refine g_aload_n G dX6_qGoesOn_92 rfl (lv_at hl 0 rfl) ?_
              refine mg_a X hM mf_95 dX6_qGoesOn_93 ?_
              refine g_aload_n G dX6_qGoesOn_96 rfl (lv_at hl 0 rfl) ?_
              refine mg_i X hM mf_96 dX6_qGoesOn_97 ?_
              obtain ⟨b8, hf⟩ := ck_open hf
              refine m_iald X hM (mIs.of mf_95) b8 dX6_qGoesOn_100 ?_
              refine g_bipush (v := 23) G dX6_qGoesOn_101 rfl ?_
              obtain ⟨j112, hj112, hf⟩ := jn_open hf
              have J112 : ∀ (x3 : Int32) (z46 : MS) (H : Heap) (locs : List Loc), j112 x3 z46 = some (r, z') → MI D o ad H0 z46 H locs → ∀ ls : Array Slot, lv_has ls 2 [(0, .ref o)] → Z H locs 0 0 (F0 m 112 ls [.int x3, .ref o]) := by
                intro x3 z46 H locs hf hM ls hl
                rw [hj112] at hf
                obtain ⟨z47, h23, hf⟩ := bnv_open hf
                refine m_callVv (As := [.int x3]) (rest := []) X hM hl mc_qCode (c_qCode h23) rfl (Nat.le_of_ble_eq_true rfl) (Nat.le_of_ble_eq_true rfl) rfl dX6_qGoesOn_112 (fun H locs hM => ?_)
                exact J115 _ _ _ hf hM ls (lv_sub hl [0] rfl)
              refine g_icmp_ne (tgt := 110) G dX6_qGoesOn_103 rfl (fun c21 => ?_) (fun c21 => ?_)
              · have hf := it_neg c21 hf
                refine g_bipush (v := 6) G dX6_qGoesOn_110 rfl ?_
                exact J112 _ _ _ _ hf hM ls (lv_sub hl [0] rfl)
              · have hf := it_pos c21 hf
                refine g_iconst (v := 5) G dX6_qGoesOn_106 rfl ?_
                refine g_goto (tgt := 112) G dX6_qGoesOn_107 rfl ?_
                exact J112 _ _ _ _ hf hM ls (lv_sub hl [0] rfl)
          refine g_icmp_eq (tgt := 43) G dX6_qGoesOn_22 rfl (fun c22 => ?_) (fun c22 => ?_)
          · have hf := it_pos c22 hf
            exact J43 _ _ _ hf hM ls (lv_sub hl [0] rfl)
          · have hf := it_neg c22 hf
            refine g_aload_n G dX6_qGoesOn_25 rfl (lv_at hl 0 rfl) ?_
            obtain ⟨r16, z48, h24, hf⟩ := bnd_open hf
            refine m_callVi (As := []) (rest := []) X hM hl mc_qBracket (c_qBracket h24) rfl (Nat.le_of_ble_eq_true rfl) (Nat.le_of_ble_eq_true rfl) rfl dX6_qGoesOn_26 (fun H locs hM => ?_)
            refine g_bipush (v := 23) G dX6_qGoesOn_29 rfl ?_
            refine g_icmp_eq (tgt := 43) G dX6_qGoesOn_31 rfl (fun c23 => ?_) (fun c23 => ?_)
            · have hf := it_pos c23 hf
              exact J43 _ _ _ hf hM ls (lv_sub hl [0] rfl)
            · have hf := it_neg c23 hf
              refine g_aload_n G dX6_qGoesOn_34 rfl (lv_at hl 0 rfl) ?_
              obtain ⟨r17, z49, h25, hf⟩ := bnd_open hf
              refine m_callVi (As := []) (rest := []) X hM hl mc_qBracket (c_qBracket h25) rfl (Nat.le_of_ble_eq_true rfl) (Nat.le_of_ble_eq_true rfl) rfl dX6_qGoesOn_35 (fun H locs hM => ?_)
              refine g_bipush (v := 24) G dX6_qGoesOn_38 rfl ?_
              refine g_icmp_ne (tgt := 122) G dX6_qGoesOn_40 rfl (fun c24 => ?_) (fun c24 => ?_)
              · have hf := it_neg c24 hf
                exact K122 _ _ _ hf hM ls (lv_sub hl [0] rfl)
              · have hf := it_pos c24 hf
                exact J43 _ _ _ hf hM ls (lv_sub hl [0] rfl)
  exact L0 FU _ _ _ hf hM ls (lv_sub hl [0] rfl)
theorem mc_qSums : mcV yX6_qSums cX6_qSums 3 (none) 0 603 := ⟨lw_V q2051 q2053 qs77 q157 q2054, ⟨rfl, by decide +kernel, by decide +kernel, by decide +kernel⟩, Nat.le_of_ble_eq_true rfl⟩
noncomputable def m_qSums_L53 (k78 : MS → Option (MS)) (s53 : MS → Option (MS)) (z5 : MS) : Option (MS) :=
  if (mI z5 5) = 0 then
    if (mI z5 96) ≤ (mI z5 98) then
      k78 z5
    else
      bnv (m_qDrops z5) fun z6 =>
      s53 z6
  else
    k78 z5
noncomputable def m_qSums_L15 (k53 : MS → Option (MS)) (s15 : Bool → MS → Option (MS)) (x1 : Bool) (z7 : MS) : Option (MS) :=
  if (bI x1) = 0 then
    k53 z7
  else
    if (mI z7 5) = 0 then
      bnv (m_qPartTold z7) fun z8 =>
      jn (fun (x2 : Bool) (z9 : MS) =>
        s15 x2 z9) fun j49 =>
      jn (fun (z10 : MS) =>
        j49 false z10) fun j48 =>
      if (mI z8 5) = 0 then
        bnd (m_qGoesOn z8) fun r1 z11 =>
        if (bI r1) = 0 then
          j48 z11
        else
          j49 true z11
      else
        j48 z8
    else
      k53 z7
noncomputable def m_qSums (z : MS) : Option (MS) :=
  nm (wI z 98 (mI z 96)) fun z1 =>
  jn (fun (z2 : MS) =>
    jn (fun (z3 : MS) =>
      nm (wI z3 98 (mI z 98)) fun z4 =>
      some z4) fun k78 =>
    fx (m_qSums_L53 k78) (fun _ => none) FU  z2) fun k53 =>
  fx (m_qSums_L15 k53) (fun _ _ => none) FU true z1
set_option maxHeartbeats 1000000 in
theorem c_qSums {l : Launch} {D : MD} {o : Nat} {ad : Nat → Nat} {z z' : MS} (hf : m_qSums z = some z') : MMet l D o ad yX6_qSums cX6_qSums 3 (none) 7 [.ref o] z z' (none) := by
  unfold m_qSums at hf
  refine m_head pnX6 rfl (Nat.le_of_ble_eq_true rfl) (fun m Z H0 ls X hM hl => ?_)
  have G := X.g
  have hl : lv_has ls 3 [(0, .ref o)] := hl
  refine g_aload_n G dX6_qSums_0 rfl (lv_at hl 0 rfl) ?_
  refine mg_i X hM mf_98 dX6_qSums_1 ?_
  refine g_istore_n (lv' := [(1, .int (mI z 98)), (0, .ref o)]) G dX6_qSums_4 rfl hl (Nat.le_of_ble_eq_true rfl) rfl (fun ls hl => ?_)
  refine g_aload_n G dX6_qSums_5 rfl (lv_at hl 1 rfl) ?_
  refine g_aload_n G dX6_qSums_6 rfl (lv_at hl 1 rfl) ?_
  refine mg_i X hM mf_96 dX6_qSums_7 ?_
  obtain ⟨z1, hz1, hf⟩ := nm_open hf
  refine mp_i X hM mf_98 hz1 dX6_qSums_10 (fun H locs hM => ?_)
  refine g_iconst (v := 1) G dX6_qSums_13 rfl ?_
  refine g_istore_n (lv' := [(2, .int 1), (1, .int (mI z 98)), (0, .ref o)]) G dX6_qSums_14 rfl hl (Nat.le_of_ble_eq_true rfl) rfl (fun ls hl => ?_)
  obtain ⟨k53, hk53, hf⟩ := jn_open hf
  have K53 : ∀ (z2 : MS) (H : Heap) (locs : List Loc), k53 z2 = some z' → MI D o ad H0 z2 H locs → ∀ ls : Array Slot, lv_has ls 3 [(0, .ref o), (1, .int (mI z 98))] → Z H locs 0 0 (F0 m 53 ls []) := by
    intro z2 H locs hf hM ls hl
    rw [hk53] at hf
    obtain ⟨k78, hk78, hf⟩ := jn_open hf
    have K78 : ∀ (z3 : MS) (H : Heap) (locs : List Loc), k78 z3 = some z' → MI D o ad H0 z3 H locs → ∀ ls : Array Slot, lv_has ls 3 [(0, .ref o), (1, .int (mI z 98))] → Z H locs 0 0 (F0 m 78 ls []) := by
      intro z3 H locs hf hM ls hl
      rw [hk78] at hf
      refine g_aload_n G dX6_qSums_78 rfl (lv_at hl 0 rfl) ?_
      refine g_iload_n G dX6_qSums_79 rfl (lv_at hl 1 rfl) ?_
      obtain ⟨z4, hz4, hf⟩ := nm_open hf
      refine mp_i X hM mf_98 hz4 dX6_qSums_80 (fun H locs hM => ?_)
      exact m_vret X hM hf dX6_qSums_83
    have L53 : ∀ (n : Nat) (z5 : MS) (H : Heap) (locs : List Loc), fx (m_qSums_L53 k78) (fun _ => none) n z5 = some z' → MI D o ad H0 z5 H locs → ∀ ls : Array Slot, lv_has ls 3 [(0, .ref o), (1, .int (mI z 98))] → Z H locs 0 0 (F0 m 53 ls []) := by
      intro n
      induction n with
      | zero => intro z5 H locs hf; exact absurd hf (by intro q; cases q)
      | succ n ih53 =>
        intro z5 H locs hf hM ls hl
        rw [fx_s] at hf
        generalize fx (m_qSums_L53 k78) (fun _ => none) n = s53 at hf ih53
        unfold m_qSums_L53 at hf
        refine g_aload_n G dX6_qSums_53 rfl (lv_at hl 0 rfl) ?_
        refine mg_i X hM mf_5 dX6_qSums_54 ?_
        refine g_if_ne (tgt := 78) G dX6_qSums_57 rfl (fun c1 => ?_) (fun c1 => ?_)
        · have hf := it_neg c1 hf
          exact K78 _ _ _ hf hM ls (lv_sub hl [0, 1] rfl)
        · have hf := it_pos c1 hf
          refine g_aload_n G dX6_qSums_60 rfl (lv_at hl 0 rfl) ?_
          refine mg_i X hM mf_96 dX6_qSums_61 ?_
          refine g_aload_n G dX6_qSums_64 rfl (lv_at hl 0 rfl) ?_
          refine mg_i X hM mf_98 dX6_qSums_65 ?_
          refine g_icmp_le (tgt := 78) G dX6_qSums_68 rfl (fun c2 => ?_) (fun c2 => ?_)
          · have hf := it_pos c2 hf
            exact K78 _ _ _ hf hM ls (lv_sub hl [0, 1] rfl)
          · have hf := it_neg c2 hf
            refine g_aload_n G dX6_qSums_71 rfl (lv_at hl 0 rfl) ?_
            obtain ⟨z6, h1, hf⟩ := bnv_open hf
            refine m_callVv (As := []) (rest := []) X hM hl mc_qDrops (c_qDrops h1) rfl (Nat.le_of_ble_eq_true rfl) (Nat.le_of_ble_eq_true rfl) rfl dX6_qSums_72 (fun H locs hM => ?_)
            refine g_goto (tgt := 53) G dX6_qSums_75 rfl ?_
            exact ih53 _ _ _ hf hM ls (lv_sub hl [0, 1] rfl)
    exact L53 FU _ _ _ hf hM ls (lv_sub hl [0, 1] rfl)
  have L15 : ∀ (n : Nat) (x1 : Bool) (z7 : MS) (H : Heap) (locs : List Loc), fx (m_qSums_L15 k53) (fun _ _ => none) n x1 z7 = some z' → MI D o ad H0 z7 H locs → ∀ ls : Array Slot, lv_has ls 3 [(0, .ref o), (1, .int (mI z 98)), (2, .int (bI x1))] → Z H locs 0 0 (F0 m 15 ls []) := by
    intro n
    induction n with
    | zero => intro x1 z7 H locs hf; exact absurd hf (by intro q; cases q)
    | succ n ih15 =>
      intro x1 z7 H locs hf hM ls hl
      rw [fx_s] at hf
      generalize fx (m_qSums_L15 k53) (fun _ _ => none) n = s15 at hf ih15
      unfold m_qSums_L15 at hf
      refine g_iload_n G dX6_qSums_15 rfl (lv_at hl 2 rfl) ?_
      refine g_if_eq (tgt := 53) G dX6_qSums_16 rfl (fun c3 => ?_) (fun c3 => ?_)
      · have hf := it_pos c3 hf
        exact K53 _ _ _ hf hM ls (lv_sub hl [0, 1] rfl)
      · have hf := it_neg c3 hf
        refine g_aload_n G dX6_qSums_19 rfl (lv_at hl 0 rfl) ?_
        refine mg_i X hM mf_5 dX6_qSums_20 ?_
        refine g_if_ne (tgt := 53) G dX6_qSums_23 rfl (fun c4 => ?_) (fun c4 => ?_)
        · have hf := it_neg c4 hf
          exact K53 _ _ _ hf hM ls (lv_sub hl [0, 1] rfl)
        · have hf := it_pos c4 hf
          refine g_aload_n G dX6_qSums_26 rfl (lv_at hl 0 rfl) ?_
          obtain ⟨z8, h2, hf⟩ := bnv_open hf
          refine m_callVv (As := []) (rest := []) X hM hl mc_qPartTold (c_qPartTold h2) rfl (Nat.le_of_ble_eq_true rfl) (Nat.le_of_ble_eq_true rfl) rfl dX6_qSums_27 (fun H locs hM => ?_)
          refine g_aload_n G dX6_qSums_30 rfl (lv_at hl 0 rfl) ?_
          refine mg_i X hM mf_5 dX6_qSums_31 ?_
          obtain ⟨j49, hj49, hf⟩ := jn_open hf
          have J49 : ∀ (x2 : Bool) (z9 : MS) (H : Heap) (locs : List Loc), j49 x2 z9 = some z' → MI D o ad H0 z9 H locs → ∀ ls : Array Slot, lv_has ls 3 [(0, .ref o), (1, .int (mI z 98))] → Z H locs 0 0 (F0 m 49 ls [.int (bI x2)]) := by
            intro x2 z9 H locs hf hM ls hl
            rw [hj49] at hf
            refine g_istore_n (lv' := [(2, .int (bI x2)), (0, .ref o), (1, .int (mI z 98))]) G dX6_qSums_49 rfl hl (Nat.le_of_ble_eq_true rfl) rfl (fun ls hl => ?_)
            refine g_goto (tgt := 15) G dX6_qSums_50 rfl ?_
            exact ih15 _ _ _ _ hf hM ls (lv_sub hl [1, 2, 0] rfl)
          obtain ⟨j48, hj48, hf⟩ := jn_open hf
          have J48 : ∀ (z10 : MS) (H : Heap) (locs : List Loc), j48 z10 = some z' → MI D o ad H0 z10 H locs → ∀ ls : Array Slot, lv_has ls 3 [(0, .ref o), (1, .int (mI z 98))] → Z H locs 0 0 (F0 m 48 ls []) := by
            intro z10 H locs hf hM ls hl
            rw [hj48] at hf
            refine g_iconst (v := 0) G dX6_qSums_48 rfl ?_
            exact J49 _ _ _ _ hf hM ls (lv_sub hl [0, 1] rfl)
          refine g_if_ne (tgt := 48) G dX6_qSums_34 rfl (fun c5 => ?_) (fun c5 => ?_)
          · have hf := it_neg c5 hf
            exact J48 _ _ _ hf hM ls (lv_sub hl [0, 1] rfl)
          · have hf := it_pos c5 hf
            refine g_aload_n G dX6_qSums_37 rfl (lv_at hl 0 rfl) ?_
            obtain ⟨r1, z11, h3, hf⟩ := bnd_open hf
            refine m_callVi (As := []) (rest := []) X hM hl mc_qGoesOn (c_qGoesOn h3) rfl (Nat.le_of_ble_eq_true rfl) (Nat.le_of_ble_eq_true rfl) rfl dX6_qSums_38 (fun H locs hM => ?_)
            refine g_if_eq (tgt := 48) G dX6_qSums_41 rfl (fun c6 => ?_) (fun c6 => ?_)
            · have hf := it_pos c6 hf
              exact J48 _ _ _ hf hM ls (lv_sub hl [0, 1] rfl)
            · have hf := it_neg c6 hf
              refine g_iconst (v := 1) G dX6_qSums_44 rfl ?_
              refine g_goto (tgt := 49) G dX6_qSums_45 rfl ?_
              exact J49 _ _ _ _ hf hM ls (lv_sub hl [0, 1] rfl)
  exact L15 FU _ _ _ _ hf hM ls (lv_sub hl [2, 1, 0] rfl)
theorem mc_qFact : mcV yX6_qFact cX6_qFact 2 (none) 0 606 := ⟨lw_V q2043 q2045 qs75 q157 q2046, ⟨rfl, by decide +kernel, by decide +kernel, by decide +kernel⟩, Nat.le_of_ble_eq_true rfl⟩
noncomputable def m_qFact (z : MS) : Option (MS) :=
  bnd (m_takes 77 z) fun r1 z1 =>
  if (bI r1) = 0 then
    bnv (m_qSums z1) fun z2 =>
    if (mI z2 5) = 0 then
      bnd (m_look z2) fun r2 z3 =>
      jn (fun (z4 : MS) =>
        nm (wI z4 2 ((mI z4 2) + 1)) fun z5 =>
        bnv (m_qSums z5) fun z6 =>
        jn (fun (x1 : Int32) (z7 : MS) =>
          bnv (m_qCode x1 z7) fun z8 =>
          some z8) fun j102 =>
        if r2 = 60 then
          j102 7 z6
        else
          if r2 = 62 then
            j102 8 z6
          else
            j102 9 z6) fun j63 =>
      if r2 = 60 then
        j63 z3
      else
        if r2 = 62 then
          j63 z3
        else
          if r2 = 61 then
            j63 z3
          else
            bnv (m_fail 1 (mI z3 2) z3) fun z9 =>
            some z9
    else
      some z2
  else
    bnv (m_qCode 13 z1) fun z10 =>
    some z10
set_option maxHeartbeats 1000000 in
theorem c_qFact {l : Launch} {D : MD} {o : Nat} {ad : Nat → Nat} {z z' : MS} (hf : m_qFact z = some z') : MMet l D o ad yX6_qFact cX6_qFact 2 (none) 8 [.ref o] z z' (none) := by
  unfold m_qFact at hf
  refine m_head pnX6 rfl (Nat.le_of_ble_eq_true rfl) (fun m Z H0 ls X hM hl => ?_)
  have G := X.g
  have hl : lv_has ls 2 [(0, .ref o)] := hl
  refine g_aload_n G dX6_qFact_0 rfl (lv_at hl 0 rfl) ?_
  refine g_aload_n G dX6_qFact_1 rfl (lv_at hl 0 rfl) ?_
  refine mg_a X hM mf_77 dX6_qFact_2 ?_
  obtain ⟨r1, z1, h1, hf⟩ := bnd_open hf
  refine m_callVi (As := [.ref (ad 77)]) (rest := []) X hM hl mc_takes (c_takes (mIs.of mf_77) h1) rfl (Nat.le_of_ble_eq_true rfl) (Nat.le_of_ble_eq_true rfl) rfl dX6_qFact_5 (fun H locs hM => ?_)
  refine g_if_eq (tgt := 18) G dX6_qFact_8 rfl (fun c1 => ?_) (fun c1 => ?_)
  · have hf := it_pos c1 hf
    refine g_aload_n G dX6_qFact_18 rfl (lv_at hl 0 rfl) ?_
    obtain ⟨z2, h2, hf⟩ := bnv_open hf
    refine m_callVv (As := []) (rest := []) X hM hl mc_qSums (c_qSums h2) rfl (Nat.le_of_ble_eq_true rfl) (Nat.le_of_ble_eq_true rfl) rfl dX6_qFact_19 (fun H locs hM => ?_)
    refine g_aload_n G dX6_qFact_22 rfl (lv_at hl 0 rfl) ?_
    refine mg_i X hM mf_5 dX6_qFact_23 ?_
    refine g_if_eq (tgt := 30) G dX6_qFact_26 rfl (fun c2 => ?_) (fun c2 => ?_)
    · have hf := it_pos c2 hf
      refine g_aload_n G dX6_qFact_30 rfl (lv_at hl 0 rfl) ?_
      obtain ⟨r2, z3, h3, hf⟩ := bnd_open hf
      refine m_callVi (As := []) (rest := []) X hM hl mc_look (c_look h3) rfl (Nat.le_of_ble_eq_true rfl) (Nat.le_of_ble_eq_true rfl) rfl dX6_qFact_31 (fun H locs hM => ?_)
      refine g_istore_n (lv' := [(1, .int r2), (0, .ref o)]) G dX6_qFact_34 rfl hl (Nat.le_of_ble_eq_true rfl) rfl (fun ls hl => ?_)
      refine g_iload_n G dX6_qFact_35 rfl (lv_at hl 0 rfl) ?_
      refine g_bipush (v := 60) G dX6_qFact_36 rfl ?_
      obtain ⟨j63, hj63, hf⟩ := jn_open hf
      have J63 : ∀ (z4 : MS) (H : Heap) (locs : List Loc), j63 z4 = some z' → MI D o ad H0 z4 H locs → ∀ ls : Array Slot, lv_has ls 2 [(0, .ref o), (1, .int r2)] → Z H locs 0 0 (F0 m 63 ls []) := by
        intro z4 H locs hf hM ls hl
        rw [hj63] at hf
        refine g_aload_n G dX6_qFact_63 rfl (lv_at hl 0 rfl) ?_
        refine g_dup G dX6_qFact_64 rfl ?_
        refine mg_i X hM mf_2 dX6_qFact_65 ?_
        refine g_iconst (v := 1) G dX6_qFact_68 rfl ?_
        refine g_iadd G dX6_qFact_69 ?_
        obtain ⟨z5, hz5, hf⟩ := nm_open hf
        refine mp_i X hM mf_2 hz5 dX6_qFact_70 (fun H locs hM => ?_)
        refine g_aload_n G dX6_qFact_73 rfl (lv_at hl 0 rfl) ?_
        obtain ⟨z6, h4, hf⟩ := bnv_open hf
        refine m_callVv (As := []) (rest := []) X hM hl mc_qSums (c_qSums h4) rfl (Nat.le_of_ble_eq_true rfl) (Nat.le_of_ble_eq_true rfl) rfl dX6_qFact_74 (fun H locs hM => ?_)
        refine g_aload_n G dX6_qFact_77 rfl (lv_at hl 0 rfl) ?_
        refine g_iload_n G dX6_qFact_78 rfl (lv_at hl 1 rfl) ?_
        refine g_bipush (v := 60) G dX6_qFact_79 rfl ?_
        obtain ⟨j102, hj102, hf⟩ := jn_open hf
        have J102 : ∀ (x1 : Int32) (z7 : MS) (H : Heap) (locs : List Loc), j102 x1 z7 = some z' → MI D o ad H0 z7 H locs → ∀ ls : Array Slot, lv_has ls 2 [] → Z H locs 0 0 (F0 m 102 ls [.int x1, .ref o]) := by
          intro x1 z7 H locs hf hM ls hl
          rw [hj102] at hf
          obtain ⟨z8, h5, hf⟩ := bnv_open hf
          refine m_callVv (As := [.int x1]) (rest := []) X hM hl mc_qCode (c_qCode h5) rfl (Nat.le_of_ble_eq_true rfl) (Nat.le_of_ble_eq_true rfl) rfl dX6_qFact_102 (fun H locs hM => ?_)
          exact m_vret X hM hf dX6_qFact_105
        refine g_icmp_ne (tgt := 89) G dX6_qFact_81 rfl (fun c3 => ?_) (fun c3 => ?_)
        · have hf := it_neg c3 hf
          refine g_iload_n G dX6_qFact_89 rfl (lv_at hl 1 rfl) ?_
          refine g_bipush (v := 62) G dX6_qFact_90 rfl ?_
          refine g_icmp_ne (tgt := 100) G dX6_qFact_92 rfl (fun c4 => ?_) (fun c4 => ?_)
          · have hf := it_neg c4 hf
            refine g_bipush (v := 9) G dX6_qFact_100 rfl ?_
            exact J102 _ _ _ _ hf hM ls (lv_sub hl [] rfl)
          · have hf := it_pos c4 hf
            refine g_bipush (v := 8) G dX6_qFact_95 rfl ?_
            refine g_goto (tgt := 102) G dX6_qFact_97 rfl ?_
            exact J102 _ _ _ _ hf hM ls (lv_sub hl [] rfl)
        · have hf := it_pos c3 hf
          refine g_bipush (v := 7) G dX6_qFact_84 rfl ?_
          refine g_goto (tgt := 102) G dX6_qFact_86 rfl ?_
          exact J102 _ _ _ _ hf hM ls (lv_sub hl [] rfl)
      refine g_icmp_eq (tgt := 63) G dX6_qFact_38 rfl (fun c5 => ?_) (fun c5 => ?_)
      · have hf := it_pos c5 hf
        exact J63 _ _ _ hf hM ls (lv_sub hl [1, 0] rfl)
      · have hf := it_neg c5 hf
        refine g_iload_n G dX6_qFact_41 rfl (lv_at hl 0 rfl) ?_
        refine g_bipush (v := 62) G dX6_qFact_42 rfl ?_
        refine g_icmp_eq (tgt := 63) G dX6_qFact_44 rfl (fun c6 => ?_) (fun c6 => ?_)
        · have hf := it_pos c6 hf
          exact J63 _ _ _ hf hM ls (lv_sub hl [1, 0] rfl)
        · have hf := it_neg c6 hf
          refine g_iload_n G dX6_qFact_47 rfl (lv_at hl 0 rfl) ?_
          refine g_bipush (v := 61) G dX6_qFact_48 rfl ?_
          refine g_icmp_eq (tgt := 63) G dX6_qFact_50 rfl (fun c7 => ?_) (fun c7 => ?_)
          · have hf := it_pos c7 hf
            exact J63 _ _ _ hf hM ls (lv_sub hl [1, 0] rfl)
          · have hf := it_neg c7 hf
            refine g_aload_n G dX6_qFact_53 rfl (lv_at hl 1 rfl) ?_
            refine g_iconst (v := 1) G dX6_qFact_54 rfl ?_
            refine g_aload_n G dX6_qFact_55 rfl (lv_at hl 1 rfl) ?_
            refine mg_i X hM mf_2 dX6_qFact_56 ?_
            obtain ⟨z9, h6, hf⟩ := bnv_open hf
            refine m_callVv (As := [.int 1, .int (mI z3 2)]) (rest := []) X hM hl mc_fail (c_fail h6) rfl (Nat.le_of_ble_eq_true rfl) (Nat.le_of_ble_eq_true rfl) rfl dX6_qFact_59 (fun H locs hM => ?_)
            exact m_vret X hM hf dX6_qFact_62
    · have hf := it_neg c2 hf
      exact m_vret X hM hf dX6_qFact_29
  · have hf := it_neg c1 hf
    refine g_aload_n G dX6_qFact_11 rfl (lv_at hl 0 rfl) ?_
    refine g_bipush (v := 13) G dX6_qFact_12 rfl ?_
    obtain ⟨z10, h7, hf⟩ := bnv_open hf
    refine m_callVv (As := [.int 13]) (rest := []) X hM hl mc_qCode (c_qCode h7) rfl (Nat.le_of_ble_eq_true rfl) (Nat.le_of_ble_eq_true rfl) rfl dX6_qFact_14 (fun H locs hM => ?_)
    exact m_vret X hM hf dX6_qFact_17
theorem mc_qDropsNots : mcV yX6_qDropsNots cX6_qDropsNots 1 (none) 0 609 := ⟨lw_V q2110 q2112 qs91 q157 q2113, ⟨rfl, by decide +kernel, by decide +kernel, by decide +kernel⟩, Nat.le_of_ble_eq_true rfl⟩
noncomputable def m_qDropsNots_L0 (s0 : MS → Option (MS)) (z1 : MS) : Option (MS) :=
  if (mI z1 5) = 0 then
    bnd (m_qIsOn 12 z1) fun r1 z2 =>
    if (bI r1) = 0 then
      some z2
    else
      nm (wI z2 97 ((mI z2 97) - 1)) fun z3 =>
      bnv (m_qDrops z3) fun z4 =>
      s0 z4
  else
    some z1
noncomputable def m_qDropsNots (z : MS) : Option (MS) :=
  fx m_qDropsNots_L0 (fun _ => none) FU  z
set_option maxHeartbeats 1000000 in
theorem c_qDropsNots {l : Launch} {D : MD} {o : Nat} {ad : Nat → Nat} {z z' : MS} (hf : m_qDropsNots z = some z') : MMet l D o ad yX6_qDropsNots cX6_qDropsNots 1 (none) 3 [.ref o] z z' (none) := by
  unfold m_qDropsNots at hf
  refine m_head pnX6 rfl (Nat.le_of_ble_eq_true rfl) (fun m Z H0 ls X hM hl => ?_)
  have G := X.g
  have hl : lv_has ls 1 [(0, .ref o)] := hl
  have L0 : ∀ (n : Nat) (z1 : MS) (H : Heap) (locs : List Loc), fx m_qDropsNots_L0 (fun _ => none) n z1 = some z' → MI D o ad H0 z1 H locs → ∀ ls : Array Slot, lv_has ls 1 [(0, .ref o)] → Z H locs 0 0 (F0 m 0 ls []) := by
    intro n
    induction n with
    | zero => intro z1 H locs hf; exact absurd hf (by intro q; cases q)
    | succ n ih0 =>
      intro z1 H locs hf hM ls hl
      rw [fx_s] at hf
      generalize fx m_qDropsNots_L0 (fun _ => none) n = s0 at hf ih0
      unfold m_qDropsNots_L0 at hf
      refine g_aload_n G dX6_qDropsNots_0 rfl (lv_at hl 0 rfl) ?_
      refine mg_i X hM mf_5 dX6_qDropsNots_1 ?_
      refine g_if_ne (tgt := 33) G dX6_qDropsNots_4 rfl (fun c1 => ?_) (fun c1 => ?_)
      · have hf := it_neg c1 hf
        exact m_vret X hM hf dX6_qDropsNots_33
      · have hf := it_pos c1 hf
        refine g_aload_n G dX6_qDropsNots_7 rfl (lv_at hl 0 rfl) ?_
        refine g_bipush (v := 12) G dX6_qDropsNots_8 rfl ?_
        obtain ⟨r1, z2, h1, hf⟩ := bnd_open hf
        refine m_callVi (As := [.int 12]) (rest := []) X hM hl mc_qIsOn (c_qIsOn h1) rfl (Nat.le_of_ble_eq_true rfl) (Nat.le_of_ble_eq_true rfl) rfl dX6_qDropsNots_10 (fun H locs hM => ?_)
        refine g_if_eq (tgt := 33) G dX6_qDropsNots_13 rfl (fun c2 => ?_) (fun c2 => ?_)
        · have hf := it_pos c2 hf
          exact m_vret X hM hf dX6_qDropsNots_33
        · have hf := it_neg c2 hf
          refine g_aload_n G dX6_qDropsNots_16 rfl (lv_at hl 0 rfl) ?_
          refine g_dup G dX6_qDropsNots_17 rfl ?_
          refine mg_i X hM mf_97 dX6_qDropsNots_18 ?_
          refine g_iconst (v := 1) G dX6_qDropsNots_21 rfl ?_
          refine g_isub G dX6_qDropsNots_22 ?_
          obtain ⟨z3, hz3, hf⟩ := nm_open hf
          refine mp_i X hM mf_97 hz3 dX6_qDropsNots_23 (fun H locs hM => ?_)
          refine g_aload_n G dX6_qDropsNots_26 rfl (lv_at hl 0 rfl) ?_
          obtain ⟨z4, h2, hf⟩ := bnv_open hf
          refine m_callVv (As := []) (rest := []) X hM hl mc_qDrops (c_qDrops h2) rfl (Nat.le_of_ble_eq_true rfl) (Nat.le_of_ble_eq_true rfl) rfl dX6_qDropsNots_27 (fun H locs hM => ?_)
          refine g_goto (tgt := 0) G dX6_qDropsNots_30 rfl ?_
          exact ih0 _ _ _ hf hM ls (lv_sub hl [0] rfl)
  exact L0 FU _ _ _ hf hM ls (lv_sub hl [0] rfl)
theorem mc_qHasSquare : mcV yX6_qHasSquare cX6_qHasSquare 2 (some .boolean) 0 615 := ⟨lw_V q2118 q2120 qs93 q157 q2121, ⟨rfl, by decide +kernel, by decide +kernel, by decide +kernel⟩, Nat.le_of_ble_eq_true rfl⟩
noncomputable def m_qHasSquare_L2 (s2 : Int32 → MS → Option (Bool × MS)) (x1 : Int32) (z1 : MS) : Option (Bool × MS) :=
  if (mI z1 96) ≤ x1 then
    some (false, z1)
  else
    ck (inb x1 (mN 95)) <|
    if (mA z1 95 (Int32.toNatClampNeg x1)) = 25 then
      some (true, z1)
    else
      s2 (x1 + 1) z1
noncomputable def m_qHasSquare (z : MS) : Option (Bool × MS) :=
  fx m_qHasSquare_L2 (fun _ _ => none) FU 0 z
set_option maxHeartbeats 1000000 in
theorem c_qHasSquare {l : Launch} {D : MD} {o : Nat} {ad : Nat → Nat} {z z' : MS} {r : Bool} (hf : m_qHasSquare z = some (r, z')) : MMet l D o ad yX6_qHasSquare cX6_qHasSquare 2 (some .boolean) 1 [.ref o] z z' (some (.int (bI r))) := by
  unfold m_qHasSquare at hf
  refine m_head pnX6 rfl (Nat.le_of_ble_eq_true rfl) (fun m Z H0 ls X hM hl => ?_)
  have G := X.g
  have hl : lv_has ls 2 [(0, .ref o)] := hl
  refine g_iconst (v := 0) G dX6_qHasSquare_0 rfl ?_
  refine g_istore_n (lv' := [(1, .int 0), (0, .ref o)]) G dX6_qHasSquare_1 rfl hl (Nat.le_of_ble_eq_true rfl) rfl (fun ls hl => ?_)
  have L2 : ∀ (n : Nat) (x1 : Int32) (z1 : MS) (H : Heap) (locs : List Loc), fx m_qHasSquare_L2 (fun _ _ => none) n x1 z1 = some (r, z') → MI D o ad H0 z1 H locs → ∀ ls : Array Slot, lv_has ls 2 [(0, .ref o), (1, .int x1)] → Z H locs 0 0 (F0 m 2 ls []) := by
    intro n
    induction n with
    | zero => intro x1 z1 H locs hf; exact absurd hf (by intro q; cases q)
    | succ n ih2 =>
      intro x1 z1 H locs hf hM ls hl
      rw [fx_s] at hf
      generalize fx m_qHasSquare_L2 (fun _ _ => none) n = s2 at hf ih2
      unfold m_qHasSquare_L2 at hf
      refine g_iload_n G dX6_qHasSquare_2 rfl (lv_at hl 1 rfl) ?_
      refine g_aload_n G dX6_qHasSquare_3 rfl (lv_at hl 0 rfl) ?_
      refine mg_i X hM mf_96 dX6_qHasSquare_4 ?_
      refine g_icmp_ge (tgt := 29) G dX6_qHasSquare_7 rfl (fun c1 => ?_) (fun c1 => ?_)
      · have hf := it_pos c1 hf
        refine g_iconst (v := 0) G dX6_qHasSquare_29 rfl ?_
        exact m_zret X hM hf dX6_qHasSquare_30
      · have hf := it_neg c1 hf
        refine g_aload_n G dX6_qHasSquare_10 rfl (lv_at hl 0 rfl) ?_
        refine mg_a X hM mf_95 dX6_qHasSquare_11 ?_
        refine g_iload_n G dX6_qHasSquare_14 rfl (lv_at hl 1 rfl) ?_
        obtain ⟨b1, hf⟩ := ck_open hf
        refine m_iald X hM (mIs.of mf_95) b1 dX6_qHasSquare_15 ?_
        refine g_bipush (v := 25) G dX6_qHasSquare_16 rfl ?_
        refine g_icmp_ne (tgt := 23) G dX6_qHasSquare_18 rfl (fun c2 => ?_) (fun c2 => ?_)
        · have hf := it_neg c2 hf
          refine g_iinc (v := x1 + 1) (lv' := [(1, .int (x1 + 1)), (0, .ref o)]) G dX6_qHasSquare_23 hl (k := 1) rfl rfl (Nat.le_of_ble_eq_true rfl) rfl (fun ls hl => ?_)
          refine g_goto (tgt := 2) G dX6_qHasSquare_26 rfl ?_
          exact ih2 _ _ _ _ hf hM ls (lv_sub hl [1, 0] rfl)
        · have hf := it_pos c2 hf
          refine g_iconst (v := 1) G dX6_qHasSquare_21 rfl ?_
          exact m_zret X hM hf dX6_qHasSquare_22
  exact L2 FU _ _ _ _ hf hM ls (lv_sub hl [1, 0] rfl)
theorem mc_qGoesOnTest : mcV yX6_qGoesOnTest cX6_qGoesOnTest 1 (some .boolean) 0 612 := ⟨lw_V q2114 q2116 qs92 q157 q2117, ⟨rfl, by decide +kernel, by decide +kernel, by decide +kernel⟩, Nat.le_of_ble_eq_true rfl⟩
noncomputable def m_qGoesOnTest_L137 (k162 : MS → Option (Bool × MS)) (s137 : MS → Option (Bool × MS)) (z9 : MS) : Option (Bool × MS) :=
  bnd (m_qIsOn 10 z9) fun r4 z10 =>
  jn (fun (z11 : MS) =>
    bnv (m_qDrops z11) fun z12 =>
    s137 z12) fun j155 =>
  if (bI r4) = 0 then
    bnd (m_qIsOn 11 z10) fun r5 z13 =>
    if (bI r5) = 0 then
      k162 z13
    else
      j155 z13
  else
    j155 z10
noncomputable def m_qGoesOnTest_L87 (k103 : MS → Option (Bool × MS)) (s87 : MS → Option (Bool × MS)) (z17 : MS) : Option (Bool × MS) :=
  bnd (m_qIsOn 10 z17) fun r6 z18 =>
  if (bI r6) = 0 then
    k103 z18
  else
    bnv (m_qDrops z18) fun z19 =>
    s87 z19
noncomputable def m_qGoesOnTest_L33 (k49 : MS → Option (Bool × MS)) (s33 : MS → Option (Bool × MS)) (z28 : MS) : Option (Bool × MS) :=
  bnd (m_qIsOn 25 z28) fun r9 z29 =>
  if (bI r9) = 0 then
    bnv (m_qDrops z29) fun z30 =>
    s33 z30
  else
    k49 z29
noncomputable def m_qGoesOnTest_L0 (k76 : MS → Option (Bool × MS)) (s0 : MS → Option (Bool × MS)) (z20 : MS) : Option (Bool × MS) :=
  if (mI z20 5) = 0 then
    bnd (m_look z20) fun r7 z21 =>
    if r7 = 93 then
      bnd (m_qHasSquare z21) fun r8 z22 =>
      if (bI r8) = 0 then
        k76 z22
      else
        nm (wI z22 2 ((mI z22 2) + 1)) fun z23 =>
        jn (fun (z24 : MS) =>
          nm (wI z24 96 ((mI z24 96) - 1)) fun z25 =>
          nm (wI z25 97 ((mI z25 97) - 1)) fun z26 =>
          bnv (m_qDropsNots z26) fun z27 =>
          s0 z27) fun k49 =>
        fx (m_qGoesOnTest_L33 k49) (fun _ => none) FU  z23
    else
      k76 z21
  else
    k76 z20
noncomputable def m_qGoesOnTest (z : MS) : Option (Bool × MS) :=
  jn (fun (z1 : MS) =>
    bnd (m_takes 75 z1) fun r1 z2 =>
    if (bI r1) = 0 then
      bnd (m_takes 76 z2) fun r2 z3 =>
      if (bI r2) = 0 then
        if (mI z3 5) = 0 then
          bnd (m_qHasSquare z3) fun r3 z4 =>
          if (bI r3) = 0 then
            some (false, z4)
          else
            bnv (m_fail 1 (mI z4 2) z4) fun z5 =>
            some (false, z5)
        else
          some (false, z3)
      else
        jn (fun (z6 : MS) =>
          ck (inb (mI z6 96) (mN 95)) <|
          nm (wA z6 95 (Int32.toNatClampNeg (mI z6 96)) 11) fun z7 =>
          nm (wI z7 96 ((mI z7 96) + 1)) fun z8 =>
          some (true, z8)) fun k162 =>
        fx (m_qGoesOnTest_L137 k162) (fun _ => none) FU  z3
    else
      jn (fun (z14 : MS) =>
        ck (inb (mI z14 96) (mN 95)) <|
        nm (wA z14 95 (Int32.toNatClampNeg (mI z14 96)) 10) fun z15 =>
        nm (wI z15 96 ((mI z15 96) + 1)) fun z16 =>
        some (true, z16)) fun k103 =>
      fx (m_qGoesOnTest_L87 k103) (fun _ => none) FU  z2) fun k76 =>
  fx (m_qGoesOnTest_L0 k76) (fun _ => none) FU  z
set_option maxHeartbeats 1000000 in
theorem c_qGoesOnTest {l : Launch} {D : MD} {o : Nat} {ad : Nat → Nat} {z z' : MS} {r : Bool} (hf : m_qGoesOnTest z = some (r, z')) : MMet l D o ad yX6_qGoesOnTest cX6_qGoesOnTest 1 (some .boolean) 4 [.ref o] z z' (some (.int (bI r))) := by
  unfold m_qGoesOnTest at hf
  refine m_head pnX6 rfl (Nat.le_of_ble_eq_true rfl) (fun m Z H0 ls X hM hl => ?_)
  have G := X.g
  have hl : lv_has ls 1 [(0, .ref o)] := hl
  obtain ⟨k76, hk76, hf⟩ := jn_open hf
  have K76 : ∀ (z1 : MS) (H : Heap) (locs : List Loc), k76 z1 = some (r, z') → MI D o ad H0 z1 H locs → ∀ ls : Array Slot, lv_has ls 1 [(0, .ref o)] → Z H locs 0 0 (F0 m 76 ls []) := by
    intro z1 H locs hf hM ls hl
    rw [hk76] at hf
    refine g_aload_n G dX6_qGoesOnTest_76 rfl (lv_at hl 0 rfl) ?_
    refine g_aload_n G dX6_qGoesOnTest_77 rfl (lv_at hl 0 rfl) ?_
    refine mg_a X hM mf_75 dX6_qGoesOnTest_78 ?_
    obtain ⟨r1, z2, h1, hf⟩ := bnd_open hf
    refine m_callVi (As := [.ref (ad 75)]) (rest := []) X hM hl mc_takes (c_takes (mIs.of mf_75) h1) rfl (Nat.le_of_ble_eq_true rfl) (Nat.le_of_ble_eq_true rfl) rfl dX6_qGoesOnTest_81 (fun H locs hM => ?_)
    refine g_if_eq (tgt := 126) G dX6_qGoesOnTest_84 rfl (fun c1 => ?_) (fun c1 => ?_)
    · have hf := it_pos c1 hf
      refine g_aload_n G dX6_qGoesOnTest_126 rfl (lv_at hl 0 rfl) ?_
      refine g_aload_n G dX6_qGoesOnTest_127 rfl (lv_at hl 0 rfl) ?_
      refine mg_a X hM mf_76 dX6_qGoesOnTest_128 ?_
      obtain ⟨r2, z3, h2, hf⟩ := bnd_open hf
      refine m_callVi (As := [.ref (ad 76)]) (rest := []) X hM hl mc_takes (c_takes (mIs.of mf_76) h2) rfl (Nat.le_of_ble_eq_true rfl) (Nat.le_of_ble_eq_true rfl) rfl dX6_qGoesOnTest_131 (fun H locs hM => ?_)
      refine g_if_eq (tgt := 185) G dX6_qGoesOnTest_134 rfl (fun c2 => ?_) (fun c2 => ?_)
      · have hf := it_pos c2 hf
        refine g_aload_n G dX6_qGoesOnTest_185 rfl (lv_at hl 0 rfl) ?_
        refine mg_i X hM mf_5 dX6_qGoesOnTest_186 ?_
        refine g_if_ne (tgt := 208) G dX6_qGoesOnTest_189 rfl (fun c3 => ?_) (fun c3 => ?_)
        · have hf := it_neg c3 hf
          refine g_iconst (v := 0) G dX6_qGoesOnTest_208 rfl ?_
          exact m_zret X hM hf dX6_qGoesOnTest_209
        · have hf := it_pos c3 hf
          refine g_aload_n G dX6_qGoesOnTest_192 rfl (lv_at hl 0 rfl) ?_
          obtain ⟨r3, z4, h3, hf⟩ := bnd_open hf
          refine m_callVi (As := []) (rest := []) X hM hl mc_qHasSquare (c_qHasSquare h3) rfl (Nat.le_of_ble_eq_true rfl) (Nat.le_of_ble_eq_true rfl) rfl dX6_qGoesOnTest_193 (fun H locs hM => ?_)
          refine g_if_eq (tgt := 208) G dX6_qGoesOnTest_196 rfl (fun c4 => ?_) (fun c4 => ?_)
          · have hf := it_pos c4 hf
            refine g_iconst (v := 0) G dX6_qGoesOnTest_208 rfl ?_
            exact m_zret X hM hf dX6_qGoesOnTest_209
          · have hf := it_neg c4 hf
            refine g_aload_n G dX6_qGoesOnTest_199 rfl (lv_at hl 0 rfl) ?_
            refine g_iconst (v := 1) G dX6_qGoesOnTest_200 rfl ?_
            refine g_aload_n G dX6_qGoesOnTest_201 rfl (lv_at hl 0 rfl) ?_
            refine mg_i X hM mf_2 dX6_qGoesOnTest_202 ?_
            obtain ⟨z5, h4, hf⟩ := bnv_open hf
            refine m_callVv (As := [.int 1, .int (mI z4 2)]) (rest := []) X hM hl mc_fail (c_fail h4) rfl (Nat.le_of_ble_eq_true rfl) (Nat.le_of_ble_eq_true rfl) rfl dX6_qGoesOnTest_205 (fun H locs hM => ?_)
            refine g_iconst (v := 0) G dX6_qGoesOnTest_208 rfl ?_
            exact m_zret X hM hf dX6_qGoesOnTest_209
      · have hf := it_neg c2 hf
        obtain ⟨k162, hk162, hf⟩ := jn_open hf
        have K162 : ∀ (z6 : MS) (H : Heap) (locs : List Loc), k162 z6 = some (r, z') → MI D o ad H0 z6 H locs → ∀ ls : Array Slot, lv_has ls 1 [(0, .ref o)] → Z H locs 0 0 (F0 m 162 ls []) := by
          intro z6 H locs hf hM ls hl
          rw [hk162] at hf
          refine g_aload_n G dX6_qGoesOnTest_162 rfl (lv_at hl 0 rfl) ?_
          refine mg_a X hM mf_95 dX6_qGoesOnTest_163 ?_
          refine g_aload_n G dX6_qGoesOnTest_166 rfl (lv_at hl 0 rfl) ?_
          refine mg_i X hM mf_96 dX6_qGoesOnTest_167 ?_
          refine g_bipush (v := 11) G dX6_qGoesOnTest_170 rfl ?_
          obtain ⟨b1, hf⟩ := ck_open hf
          obtain ⟨z7, hz7, hf⟩ := nm_open hf
          refine m_iast X hM (mIs.of mf_95) b1 hz7 dX6_qGoesOnTest_172 (fun H locs hM => ?_)
          refine g_aload_n G dX6_qGoesOnTest_173 rfl (lv_at hl 0 rfl) ?_
          refine g_dup G dX6_qGoesOnTest_174 rfl ?_
          refine mg_i X hM mf_96 dX6_qGoesOnTest_175 ?_
          refine g_iconst (v := 1) G dX6_qGoesOnTest_178 rfl ?_
          refine g_iadd G dX6_qGoesOnTest_179 ?_
          obtain ⟨z8, hz8, hf⟩ := nm_open hf
          refine mp_i X hM mf_96 hz8 dX6_qGoesOnTest_180 (fun H locs hM => ?_)
          refine g_iconst (v := 1) G dX6_qGoesOnTest_183 rfl ?_
          exact m_zret X hM hf dX6_qGoesOnTest_184
        have L137 : ∀ (n : Nat) (z9 : MS) (H : Heap) (locs : List Loc), fx (m_qGoesOnTest_L137 k162) (fun _ => none) n z9 = some (r, z') → MI D o ad H0 z9 H locs → ∀ ls : Array Slot, lv_has ls 1 [(0, .ref o)] → Z H locs 0 0 (F0 m 137 ls []) := by
          intro n
          induction n with
          | zero => intro z9 H locs hf; exact absurd hf (by intro q; cases q)
          | succ n ih137 =>
            intro z9 H locs hf hM ls hl
            rw [fx_s] at hf
            generalize fx (m_qGoesOnTest_L137 k162) (fun _ => none) n = s137 at hf ih137
            unfold m_qGoesOnTest_L137 at hf
            refine g_aload_n G dX6_qGoesOnTest_137 rfl (lv_at hl 0 rfl) ?_
            refine g_bipush (v := 10) G dX6_qGoesOnTest_138 rfl ?_
            obtain ⟨r4, z10, h5, hf⟩ := bnd_open hf
            refine m_callVi (As := [.int 10]) (rest := []) X hM hl mc_qIsOn (c_qIsOn h5) rfl (Nat.le_of_ble_eq_true rfl) (Nat.le_of_ble_eq_true rfl) rfl dX6_qGoesOnTest_140 (fun H locs hM => ?_)
            obtain ⟨j155, hj155, hf⟩ := jn_open hf
            have J155 : ∀ (z11 : MS) (H : Heap) (locs : List Loc), j155 z11 = some (r, z') → MI D o ad H0 z11 H locs → ∀ ls : Array Slot, lv_has ls 1 [(0, .ref o)] → Z H locs 0 0 (F0 m 155 ls []) := by
              intro z11 H locs hf hM ls hl
              rw [hj155] at hf
              refine g_aload_n G dX6_qGoesOnTest_155 rfl (lv_at hl 0 rfl) ?_
              obtain ⟨z12, h6, hf⟩ := bnv_open hf
              refine m_callVv (As := []) (rest := []) X hM hl mc_qDrops (c_qDrops h6) rfl (Nat.le_of_ble_eq_true rfl) (Nat.le_of_ble_eq_true rfl) rfl dX6_qGoesOnTest_156 (fun H locs hM => ?_)
              refine g_goto (tgt := 137) G dX6_qGoesOnTest_159 rfl ?_
              exact ih137 _ _ _ hf hM ls (lv_sub hl [0] rfl)
            refine g_if_ne (tgt := 155) G dX6_qGoesOnTest_143 rfl (fun c5 => ?_) (fun c5 => ?_)
            · have hf := it_neg c5 hf
              exact J155 _ _ _ hf hM ls (lv_sub hl [0] rfl)
            · have hf := it_pos c5 hf
              refine g_aload_n G dX6_qGoesOnTest_146 rfl (lv_at hl 0 rfl) ?_
              refine g_bipush (v := 11) G dX6_qGoesOnTest_147 rfl ?_
              obtain ⟨r5, z13, h7, hf⟩ := bnd_open hf
              refine m_callVi (As := [.int 11]) (rest := []) X hM hl mc_qIsOn (c_qIsOn h7) rfl (Nat.le_of_ble_eq_true rfl) (Nat.le_of_ble_eq_true rfl) rfl dX6_qGoesOnTest_149 (fun H locs hM => ?_)
              refine g_if_eq (tgt := 162) G dX6_qGoesOnTest_152 rfl (fun c6 => ?_) (fun c6 => ?_)
              · have hf := it_pos c6 hf
                exact K162 _ _ _ hf hM ls (lv_sub hl [0] rfl)
              · have hf := it_neg c6 hf
                exact J155 _ _ _ hf hM ls (lv_sub hl [0] rfl)
        exact L137 FU _ _ _ hf hM ls (lv_sub hl [0] rfl)
    · have hf := it_neg c1 hf
      obtain ⟨k103, hk103, hf⟩ := jn_open hf
      have K103 : ∀ (z14 : MS) (H : Heap) (locs : List Loc), k103 z14 = some (r, z') → MI D o ad H0 z14 H locs → ∀ ls : Array Slot, lv_has ls 1 [(0, .ref o)] → Z H locs 0 0 (F0 m 103 ls []) := by
        intro z14 H locs hf hM ls hl
        rw [hk103] at hf
        refine g_aload_n G dX6_qGoesOnTest_103 rfl (lv_at hl 0 rfl) ?_
        refine mg_a X hM mf_95 dX6_qGoesOnTest_104 ?_
        refine g_aload_n G dX6_qGoesOnTest_107 rfl (lv_at hl 0 rfl) ?_
        refine mg_i X hM mf_96 dX6_qGoesOnTest_108 ?_
        refine g_bipush (v := 10) G dX6_qGoesOnTest_111 rfl ?_
        obtain ⟨b2, hf⟩ := ck_open hf
        obtain ⟨z15, hz15, hf⟩ := nm_open hf
        refine m_iast X hM (mIs.of mf_95) b2 hz15 dX6_qGoesOnTest_113 (fun H locs hM => ?_)
        refine g_aload_n G dX6_qGoesOnTest_114 rfl (lv_at hl 0 rfl) ?_
        refine g_dup G dX6_qGoesOnTest_115 rfl ?_
        refine mg_i X hM mf_96 dX6_qGoesOnTest_116 ?_
        refine g_iconst (v := 1) G dX6_qGoesOnTest_119 rfl ?_
        refine g_iadd G dX6_qGoesOnTest_120 ?_
        obtain ⟨z16, hz16, hf⟩ := nm_open hf
        refine mp_i X hM mf_96 hz16 dX6_qGoesOnTest_121 (fun H locs hM => ?_)
        refine g_iconst (v := 1) G dX6_qGoesOnTest_124 rfl ?_
        exact m_zret X hM hf dX6_qGoesOnTest_125
      have L87 : ∀ (n : Nat) (z17 : MS) (H : Heap) (locs : List Loc), fx (m_qGoesOnTest_L87 k103) (fun _ => none) n z17 = some (r, z') → MI D o ad H0 z17 H locs → ∀ ls : Array Slot, lv_has ls 1 [(0, .ref o)] → Z H locs 0 0 (F0 m 87 ls []) := by
        intro n
        induction n with
        | zero => intro z17 H locs hf; exact absurd hf (by intro q; cases q)
        | succ n ih87 =>
          intro z17 H locs hf hM ls hl
          rw [fx_s] at hf
          generalize fx (m_qGoesOnTest_L87 k103) (fun _ => none) n = s87 at hf ih87
          unfold m_qGoesOnTest_L87 at hf
          refine g_aload_n G dX6_qGoesOnTest_87 rfl (lv_at hl 0 rfl) ?_
          refine g_bipush (v := 10) G dX6_qGoesOnTest_88 rfl ?_
          obtain ⟨r6, z18, h8, hf⟩ := bnd_open hf
          refine m_callVi (As := [.int 10]) (rest := []) X hM hl mc_qIsOn (c_qIsOn h8) rfl (Nat.le_of_ble_eq_true rfl) (Nat.le_of_ble_eq_true rfl) rfl dX6_qGoesOnTest_90 (fun H locs hM => ?_)
          refine g_if_eq (tgt := 103) G dX6_qGoesOnTest_93 rfl (fun c7 => ?_) (fun c7 => ?_)
          · have hf := it_pos c7 hf
            exact K103 _ _ _ hf hM ls (lv_sub hl [0] rfl)
          · have hf := it_neg c7 hf
            refine g_aload_n G dX6_qGoesOnTest_96 rfl (lv_at hl 0 rfl) ?_
            obtain ⟨z19, h9, hf⟩ := bnv_open hf
            refine m_callVv (As := []) (rest := []) X hM hl mc_qDrops (c_qDrops h9) rfl (Nat.le_of_ble_eq_true rfl) (Nat.le_of_ble_eq_true rfl) rfl dX6_qGoesOnTest_97 (fun H locs hM => ?_)
            refine g_goto (tgt := 87) G dX6_qGoesOnTest_100 rfl ?_
            exact ih87 _ _ _ hf hM ls (lv_sub hl [0] rfl)
      exact L87 FU _ _ _ hf hM ls (lv_sub hl [0] rfl)
  have L0 : ∀ (n : Nat) (z20 : MS) (H : Heap) (locs : List Loc), fx (m_qGoesOnTest_L0 k76) (fun _ => none) n z20 = some (r, z') → MI D o ad H0 z20 H locs → ∀ ls : Array Slot, lv_has ls 1 [(0, .ref o)] → Z H locs 0 0 (F0 m 0 ls []) := by
    intro n
    induction n with
    | zero => intro z20 H locs hf; exact absurd hf (by intro q; cases q)
    | succ n ih0 =>
      intro z20 H locs hf hM ls hl
      rw [fx_s] at hf
      generalize fx (m_qGoesOnTest_L0 k76) (fun _ => none) n = s0 at hf ih0
      unfold m_qGoesOnTest_L0 at hf
      refine g_aload_n G dX6_qGoesOnTest_0 rfl (lv_at hl 0 rfl) ?_
      refine mg_i X hM mf_5 dX6_qGoesOnTest_1 ?_
      refine g_if_ne (tgt := 76) G dX6_qGoesOnTest_4 rfl (fun c8 => ?_) (fun c8 => ?_)
      · have hf := it_neg c8 hf
        exact K76 _ _ _ hf hM ls (lv_sub hl [0] rfl)
      · have hf := it_pos c8 hf
        refine g_aload_n G dX6_qGoesOnTest_7 rfl (lv_at hl 0 rfl) ?_
        obtain ⟨r7, z21, h10, hf⟩ := bnd_open hf
        refine m_callVi (As := []) (rest := []) X hM hl mc_look (c_look h10) rfl (Nat.le_of_ble_eq_true rfl) (Nat.le_of_ble_eq_true rfl) rfl dX6_qGoesOnTest_8 (fun H locs hM => ?_)
        refine g_bipush (v := 93) G dX6_qGoesOnTest_11 rfl ?_
        refine g_icmp_ne (tgt := 76) G dX6_qGoesOnTest_13 rfl (fun c9 => ?_) (fun c9 => ?_)
        · have hf := it_neg c9 hf
          exact K76 _ _ _ hf hM ls (lv_sub hl [0] rfl)
        · have hf := it_pos c9 hf
          refine g_aload_n G dX6_qGoesOnTest_16 rfl (lv_at hl 0 rfl) ?_
          obtain ⟨r8, z22, h11, hf⟩ := bnd_open hf
          refine m_callVi (As := []) (rest := []) X hM hl mc_qHasSquare (c_qHasSquare h11) rfl (Nat.le_of_ble_eq_true rfl) (Nat.le_of_ble_eq_true rfl) rfl dX6_qGoesOnTest_17 (fun H locs hM => ?_)
          refine g_if_eq (tgt := 76) G dX6_qGoesOnTest_20 rfl (fun c10 => ?_) (fun c10 => ?_)
          · have hf := it_pos c10 hf
            exact K76 _ _ _ hf hM ls (lv_sub hl [0] rfl)
          · have hf := it_neg c10 hf
            refine g_aload_n G dX6_qGoesOnTest_23 rfl (lv_at hl 0 rfl) ?_
            refine g_dup G dX6_qGoesOnTest_24 rfl ?_
            refine mg_i X hM mf_2 dX6_qGoesOnTest_25 ?_
            refine g_iconst (v := 1) G dX6_qGoesOnTest_28 rfl ?_
            refine g_iadd G dX6_qGoesOnTest_29 ?_
            obtain ⟨z23, hz23, hf⟩ := nm_open hf
            refine mp_i X hM mf_2 hz23 dX6_qGoesOnTest_30 (fun H locs hM => ?_)
            obtain ⟨k49, hk49, hf⟩ := jn_open hf
            have K49 : ∀ (z24 : MS) (H : Heap) (locs : List Loc), k49 z24 = some (r, z') → MI D o ad H0 z24 H locs → ∀ ls : Array Slot, lv_has ls 1 [(0, .ref o)] → Z H locs 0 0 (F0 m 49 ls []) := by
              intro z24 H locs hf hM ls hl
              rw [hk49] at hf
              refine g_aload_n G dX6_qGoesOnTest_49 rfl (lv_at hl 0 rfl) ?_
              refine g_dup G dX6_qGoesOnTest_50 rfl ?_
              refine mg_i X hM mf_96 dX6_qGoesOnTest_51 ?_
              refine g_iconst (v := 1) G dX6_qGoesOnTest_54 rfl ?_
              refine g_isub G dX6_qGoesOnTest_55 ?_
              obtain ⟨z25, hz25, hf⟩ := nm_open hf
              refine mp_i X hM mf_96 hz25 dX6_qGoesOnTest_56 (fun H locs hM => ?_)
              refine g_aload_n G dX6_qGoesOnTest_59 rfl (lv_at hl 0 rfl) ?_
              refine g_dup G dX6_qGoesOnTest_60 rfl ?_
              refine mg_i X hM mf_97 dX6_qGoesOnTest_61 ?_
              refine g_iconst (v := 1) G dX6_qGoesOnTest_64 rfl ?_
              refine g_isub G dX6_qGoesOnTest_65 ?_
              obtain ⟨z26, hz26, hf⟩ := nm_open hf
              refine mp_i X hM mf_97 hz26 dX6_qGoesOnTest_66 (fun H locs hM => ?_)
              refine g_aload_n G dX6_qGoesOnTest_69 rfl (lv_at hl 0 rfl) ?_
              obtain ⟨z27, h12, hf⟩ := bnv_open hf
              refine m_callVv (As := []) (rest := []) X hM hl mc_qDropsNots (c_qDropsNots h12) rfl (Nat.le_of_ble_eq_true rfl) (Nat.le_of_ble_eq_true rfl) rfl dX6_qGoesOnTest_70 (fun H locs hM => ?_)
              refine g_goto (tgt := 0) G dX6_qGoesOnTest_73 rfl ?_
              exact ih0 _ _ _ hf hM ls (lv_sub hl [0] rfl)
            have L33 : ∀ (n : Nat) (z28 : MS) (H : Heap) (locs : List Loc), fx (m_qGoesOnTest_L33 k49) (fun _ => none) n z28 = some (r, z') → MI D o ad H0 z28 H locs → ∀ ls : Array Slot, lv_has ls 1 [(0, .ref o)] → Z H locs 0 0 (F0 m 33 ls []) := by
              intro n
              induction n with
              | zero => intro z28 H locs hf; exact absurd hf (by intro q; cases q)
              | succ n ih33 =>
                intro z28 H locs hf hM ls hl
                rw [fx_s] at hf
                generalize fx (m_qGoesOnTest_L33 k49) (fun _ => none) n = s33 at hf ih33
                unfold m_qGoesOnTest_L33 at hf
                refine g_aload_n G dX6_qGoesOnTest_33 rfl (lv_at hl 0 rfl) ?_
                refine g_bipush (v := 25) G dX6_qGoesOnTest_34 rfl ?_
                obtain ⟨r9, z29, h13, hf⟩ := bnd_open hf
                refine m_callVi (As := [.int 25]) (rest := []) X hM hl mc_qIsOn (c_qIsOn h13) rfl (Nat.le_of_ble_eq_true rfl) (Nat.le_of_ble_eq_true rfl) rfl dX6_qGoesOnTest_36 (fun H locs hM => ?_)
                refine g_if_ne (tgt := 49) G dX6_qGoesOnTest_39 rfl (fun c11 => ?_) (fun c11 => ?_)
                · have hf := it_neg c11 hf
                  exact K49 _ _ _ hf hM ls (lv_sub hl [0] rfl)
                · have hf := it_pos c11 hf
                  refine g_aload_n G dX6_qGoesOnTest_42 rfl (lv_at hl 0 rfl) ?_
                  obtain ⟨z30, h14, hf⟩ := bnv_open hf
                  refine m_callVv (As := []) (rest := []) X hM hl mc_qDrops (c_qDrops h14) rfl (Nat.le_of_ble_eq_true rfl) (Nat.le_of_ble_eq_true rfl) rfl dX6_qGoesOnTest_43 (fun H locs hM => ?_)
                  refine g_goto (tgt := 33) G dX6_qGoesOnTest_46 rfl ?_
                  exact ih33 _ _ _ hf hM ls (lv_sub hl [0] rfl)
            exact L33 FU _ _ _ hf hM ls (lv_sub hl [0] rfl)
  exact L0 FU _ _ _ hf hM ls (lv_sub hl [0] rfl)
theorem mc_qTest : mcV yX6_qTest cX6_qTest 3 (none) 0 354 := ⟨lw_V q2035 q2037 qs73 q157 q2038, ⟨rfl, by decide +kernel, by decide +kernel, by decide +kernel⟩, Nat.le_of_ble_eq_true rfl⟩
noncomputable def m_qTest_L110 (s110 : MS → Option (MS)) (z2 : MS) : Option (MS) :=
  if (mI z2 5) = 0 then
    if (mI z2 96) ≤ 0 then
      some z2
    else
      bnv (m_qDrops z2) fun z3 =>
      s110 z3
  else
    some z2
noncomputable def m_qTest_L2 (k110 : MS → Option (MS)) (s2 : Bool → MS → Option (MS)) (x1 : Bool) (z4 : MS) : Option (MS) :=
  if (bI x1) = 0 then
    k110 z4
  else
    if (mI z4 5) = 0 then
      bnd (m_look z4) fun r1 z5 =>
      if r1 = 91 then
        bnv (m_qOpens 25 (mI z5 2) z5) fun z14 =>
        nm (wI z14 2 ((mI z14 2) + 1)) fun z15 =>
        s2 x1 z15
      else
        bnd (m_isHere 74 z5) fun r2 z6 =>
        if (bI r2) = 0 then
          bnv (m_qFact z6) fun z7 =>
          bnv (m_qDropsNots z7) fun z8 =>
          jn (fun (x2 : Bool) (z9 : MS) =>
            s2 x2 z9) fun j106 =>
          jn (fun (z10 : MS) =>
            j106 false z10) fun j105 =>
          if (mI z8 5) = 0 then
            bnd (m_qGoesOnTest z8) fun r3 z11 =>
            if (bI r3) = 0 then
              j105 z11
            else
              j106 true z11
          else
            j105 z8
        else
          bnv (m_qOpens 12 (mI z6 2) z6) fun z12 =>
          bnv (m_asks 74 z12) fun z13 =>
          s2 x1 z13
    else
      k110 z4
noncomputable def m_qTest (z : MS) : Option (MS) :=
  jn (fun (z1 : MS) =>
    fx m_qTest_L110 (fun _ => none) FU  z1) fun k110 =>
  fx (m_qTest_L2 k110) (fun _ _ => none) FU true z
set_option maxHeartbeats 1000000 in
theorem c_qTest {l : Launch} {D : MD} {o : Nat} {ad : Nat → Nat} {z z' : MS} (hf : m_qTest z = some z') : MMet l D o ad yX6_qTest cX6_qTest 3 (none) 9 [.ref o] z z' (none) := by
  unfold m_qTest at hf
  refine m_head pnX6 rfl (Nat.le_of_ble_eq_true rfl) (fun m Z H0 ls X hM hl => ?_)
  have G := X.g
  have hl : lv_has ls 3 [(0, .ref o)] := hl
  refine g_iconst (v := 1) G dX6_qTest_0 rfl ?_
  refine g_istore_n (lv' := [(1, .int 1), (0, .ref o)]) G dX6_qTest_1 rfl hl (Nat.le_of_ble_eq_true rfl) rfl (fun ls hl => ?_)
  obtain ⟨k110, hk110, hf⟩ := jn_open hf
  have K110 : ∀ (z1 : MS) (H : Heap) (locs : List Loc), k110 z1 = some z' → MI D o ad H0 z1 H locs → ∀ ls : Array Slot, lv_has ls 3 [(0, .ref o)] → Z H locs 0 0 (F0 m 110 ls []) := by
    intro z1 H locs hf hM ls hl
    rw [hk110] at hf
    have L110 : ∀ (n : Nat) (z2 : MS) (H : Heap) (locs : List Loc), fx m_qTest_L110 (fun _ => none) n z2 = some z' → MI D o ad H0 z2 H locs → ∀ ls : Array Slot, lv_has ls 3 [(0, .ref o)] → Z H locs 0 0 (F0 m 110 ls []) := by
      intro n
      induction n with
      | zero => intro z2 H locs hf; exact absurd hf (by intro q; cases q)
      | succ n ih110 =>
        intro z2 H locs hf hM ls hl
        rw [fx_s] at hf
        generalize fx m_qTest_L110 (fun _ => none) n = s110 at hf ih110
        unfold m_qTest_L110 at hf
        refine g_aload_n G dX6_qTest_110 rfl (lv_at hl 0 rfl) ?_
        refine mg_i X hM mf_5 dX6_qTest_111 ?_
        refine g_if_ne (tgt := 131) G dX6_qTest_114 rfl (fun c1 => ?_) (fun c1 => ?_)
        · have hf := it_neg c1 hf
          exact m_vret X hM hf dX6_qTest_131
        · have hf := it_pos c1 hf
          refine g_aload_n G dX6_qTest_117 rfl (lv_at hl 0 rfl) ?_
          refine mg_i X hM mf_96 dX6_qTest_118 ?_
          refine g_if_le (tgt := 131) G dX6_qTest_121 rfl (fun c2 => ?_) (fun c2 => ?_)
          · have hf := it_pos c2 hf
            exact m_vret X hM hf dX6_qTest_131
          · have hf := it_neg c2 hf
            refine g_aload_n G dX6_qTest_124 rfl (lv_at hl 0 rfl) ?_
            obtain ⟨z3, h1, hf⟩ := bnv_open hf
            refine m_callVv (As := []) (rest := []) X hM hl mc_qDrops (c_qDrops h1) rfl (Nat.le_of_ble_eq_true rfl) (Nat.le_of_ble_eq_true rfl) rfl dX6_qTest_125 (fun H locs hM => ?_)
            refine g_goto (tgt := 110) G dX6_qTest_128 rfl ?_
            exact ih110 _ _ _ hf hM ls (lv_sub hl [0] rfl)
    exact L110 FU _ _ _ hf hM ls (lv_sub hl [0] rfl)
  have L2 : ∀ (n : Nat) (x1 : Bool) (z4 : MS) (H : Heap) (locs : List Loc), fx (m_qTest_L2 k110) (fun _ _ => none) n x1 z4 = some z' → MI D o ad H0 z4 H locs → ∀ ls : Array Slot, lv_has ls 3 [(0, .ref o), (1, .int (bI x1))] → Z H locs 0 0 (F0 m 2 ls []) := by
    intro n
    induction n with
    | zero => intro x1 z4 H locs hf; exact absurd hf (by intro q; cases q)
    | succ n ih2 =>
      intro x1 z4 H locs hf hM ls hl
      rw [fx_s] at hf
      generalize fx (m_qTest_L2 k110) (fun _ _ => none) n = s2 at hf ih2
      unfold m_qTest_L2 at hf
      refine g_iload_n G dX6_qTest_2 rfl (lv_at hl 1 rfl) ?_
      refine g_if_eq (tgt := 110) G dX6_qTest_3 rfl (fun c3 => ?_) (fun c3 => ?_)
      · have hf := it_pos c3 hf
        exact K110 _ _ _ hf hM ls (lv_sub hl [0] rfl)
      · have hf := it_neg c3 hf
        refine g_aload_n G dX6_qTest_6 rfl (lv_at hl 0 rfl) ?_
        refine mg_i X hM mf_5 dX6_qTest_7 ?_
        refine g_if_ne (tgt := 110) G dX6_qTest_10 rfl (fun c4 => ?_) (fun c4 => ?_)
        · have hf := it_neg c4 hf
          exact K110 _ _ _ hf hM ls (lv_sub hl [0] rfl)
        · have hf := it_pos c4 hf
          refine g_aload_n G dX6_qTest_13 rfl (lv_at hl 0 rfl) ?_
          obtain ⟨r1, z5, h2, hf⟩ := bnd_open hf
          refine m_callVi (As := []) (rest := []) X hM hl mc_look (c_look h2) rfl (Nat.le_of_ble_eq_true rfl) (Nat.le_of_ble_eq_true rfl) rfl dX6_qTest_14 (fun H locs hM => ?_)
          refine g_istore_n (lv' := [(2, .int r1), (0, .ref o), (1, .int (bI x1))]) G dX6_qTest_17 rfl hl (Nat.le_of_ble_eq_true rfl) rfl (fun ls hl => ?_)
          refine g_iload_n G dX6_qTest_18 rfl (lv_at hl 0 rfl) ?_
          refine g_bipush (v := 91) G dX6_qTest_19 rfl ?_
          refine g_icmp_ne (tgt := 47) G dX6_qTest_21 rfl (fun c5 => ?_) (fun c5 => ?_)
          · have hf := it_neg c5 hf
            refine g_aload_n G dX6_qTest_47 rfl (lv_at hl 1 rfl) ?_
            refine g_aload_n G dX6_qTest_48 rfl (lv_at hl 1 rfl) ?_
            refine mg_a X hM mf_74 dX6_qTest_49 ?_
            obtain ⟨r2, z6, h3, hf⟩ := bnd_open hf
            refine m_callVi (As := [.ref (ad 74)]) (rest := []) X hM hl mc_isHere (c_isHere (mIs.of mf_74) h3) rfl (Nat.le_of_ble_eq_true rfl) (Nat.le_of_ble_eq_true rfl) rfl dX6_qTest_52 (fun H locs hM => ?_)
            refine g_if_eq (tgt := 79) G dX6_qTest_55 rfl (fun c6 => ?_) (fun c6 => ?_)
            · have hf := it_pos c6 hf
              refine g_aload_n G dX6_qTest_79 rfl (lv_at hl 1 rfl) ?_
              obtain ⟨z7, h4, hf⟩ := bnv_open hf
              refine m_callVv (As := []) (rest := []) X hM hl mc_qFact (c_qFact h4) rfl (Nat.le_of_ble_eq_true rfl) (Nat.le_of_ble_eq_true rfl) rfl dX6_qTest_80 (fun H locs hM => ?_)
              refine g_aload_n G dX6_qTest_83 rfl (lv_at hl 1 rfl) ?_
              obtain ⟨z8, h5, hf⟩ := bnv_open hf
              refine m_callVv (As := []) (rest := []) X hM hl mc_qDropsNots (c_qDropsNots h5) rfl (Nat.le_of_ble_eq_true rfl) (Nat.le_of_ble_eq_true rfl) rfl dX6_qTest_84 (fun H locs hM => ?_)
              refine g_aload_n G dX6_qTest_87 rfl (lv_at hl 1 rfl) ?_
              refine mg_i X hM mf_5 dX6_qTest_88 ?_
              obtain ⟨j106, hj106, hf⟩ := jn_open hf
              have J106 : ∀ (x2 : Bool) (z9 : MS) (H : Heap) (locs : List Loc), j106 x2 z9 = some z' → MI D o ad H0 z9 H locs → ∀ ls : Array Slot, lv_has ls 3 [(0, .ref o)] → Z H locs 0 0 (F0 m 106 ls [.int (bI x2)]) := by
                intro x2 z9 H locs hf hM ls hl
                rw [hj106] at hf
                refine g_istore_n (lv' := [(1, .int (bI x2)), (0, .ref o)]) G dX6_qTest_106 rfl hl (Nat.le_of_ble_eq_true rfl) rfl (fun ls hl => ?_)
                refine g_goto (tgt := 2) G dX6_qTest_107 rfl ?_
                exact ih2 _ _ _ _ hf hM ls (lv_sub hl [1, 0] rfl)
              obtain ⟨j105, hj105, hf⟩ := jn_open hf
              have J105 : ∀ (z10 : MS) (H : Heap) (locs : List Loc), j105 z10 = some z' → MI D o ad H0 z10 H locs → ∀ ls : Array Slot, lv_has ls 3 [(0, .ref o)] → Z H locs 0 0 (F0 m 105 ls []) := by
                intro z10 H locs hf hM ls hl
                rw [hj105] at hf
                refine g_iconst (v := 0) G dX6_qTest_105 rfl ?_
                exact J106 _ _ _ _ hf hM ls (lv_sub hl [0] rfl)
              refine g_if_ne (tgt := 105) G dX6_qTest_91 rfl (fun c7 => ?_) (fun c7 => ?_)
              · have hf := it_neg c7 hf
                exact J105 _ _ _ hf hM ls (lv_sub hl [1] rfl)
              · have hf := it_pos c7 hf
                refine g_aload_n G dX6_qTest_94 rfl (lv_at hl 1 rfl) ?_
                obtain ⟨r3, z11, h6, hf⟩ := bnd_open hf
                refine m_callVi (As := []) (rest := []) X hM hl mc_qGoesOnTest (c_qGoesOnTest h6) rfl (Nat.le_of_ble_eq_true rfl) (Nat.le_of_ble_eq_true rfl) rfl dX6_qTest_95 (fun H locs hM => ?_)
                refine g_if_eq (tgt := 105) G dX6_qTest_98 rfl (fun c8 => ?_) (fun c8 => ?_)
                · have hf := it_pos c8 hf
                  exact J105 _ _ _ hf hM ls (lv_sub hl [1] rfl)
                · have hf := it_neg c8 hf
                  refine g_iconst (v := 1) G dX6_qTest_101 rfl ?_
                  refine g_goto (tgt := 106) G dX6_qTest_102 rfl ?_
                  exact J106 _ _ _ _ hf hM ls (lv_sub hl [1] rfl)
            · have hf := it_neg c6 hf
              refine g_aload_n G dX6_qTest_58 rfl (lv_at hl 1 rfl) ?_
              refine g_bipush (v := 12) G dX6_qTest_59 rfl ?_
              refine g_aload_n G dX6_qTest_61 rfl (lv_at hl 1 rfl) ?_
              refine mg_i X hM mf_2 dX6_qTest_62 ?_
              obtain ⟨z12, h7, hf⟩ := bnv_open hf
              refine m_callVv (As := [.int 12, .int (mI z6 2)]) (rest := []) X hM hl mc_qOpens (c_qOpens h7) rfl (Nat.le_of_ble_eq_true rfl) (Nat.le_of_ble_eq_true rfl) rfl dX6_qTest_65 (fun H locs hM => ?_)
              refine g_aload_n G dX6_qTest_68 rfl (lv_at hl 1 rfl) ?_
              refine g_aload_n G dX6_qTest_69 rfl (lv_at hl 1 rfl) ?_
              refine mg_a X hM mf_74 dX6_qTest_70 ?_
              obtain ⟨z13, h8, hf⟩ := bnv_open hf
              refine m_callVv (As := [.ref (ad 74)]) (rest := []) X hM hl mc_asks (c_asks (mIs.of mf_74) h8) rfl (Nat.le_of_ble_eq_true rfl) (Nat.le_of_ble_eq_true rfl) rfl dX6_qTest_73 (fun H locs hM => ?_)
              refine g_goto (tgt := 2) G dX6_qTest_76 rfl ?_
              exact ih2 _ _ _ _ hf hM ls (lv_sub hl [1, 2] rfl)
          · have hf := it_pos c5 hf
            refine g_aload_n G dX6_qTest_24 rfl (lv_at hl 1 rfl) ?_
            refine g_bipush (v := 25) G dX6_qTest_25 rfl ?_
            refine g_aload_n G dX6_qTest_27 rfl (lv_at hl 1 rfl) ?_
            refine mg_i X hM mf_2 dX6_qTest_28 ?_
            obtain ⟨z14, h9, hf⟩ := bnv_open hf
            refine m_callVv (As := [.int 25, .int (mI z5 2)]) (rest := []) X hM hl mc_qOpens (c_qOpens h9) rfl (Nat.le_of_ble_eq_true rfl) (Nat.le_of_ble_eq_true rfl) rfl dX6_qTest_31 (fun H locs hM => ?_)
            refine g_aload_n G dX6_qTest_34 rfl (lv_at hl 1 rfl) ?_
            refine g_dup G dX6_qTest_35 rfl ?_
            refine mg_i X hM mf_2 dX6_qTest_36 ?_
            refine g_iconst (v := 1) G dX6_qTest_39 rfl ?_
            refine g_iadd G dX6_qTest_40 ?_
            obtain ⟨z15, hz15, hf⟩ := nm_open hf
            refine mp_i X hM mf_2 hz15 dX6_qTest_41 (fun H locs hM => ?_)
            refine g_goto (tgt := 2) G dX6_qTest_44 rfl ?_
            exact ih2 _ _ _ _ hf hM ls (lv_sub hl [1, 2] rfl)
  exact L2 FU _ _ _ _ hf hM ls (lv_sub hl [1, 0] rfl)
theorem mc_codesTold : mcV yX6_codesTold cX6_codesTold 4 (none) 2 377 := ⟨lw_V q2031 q2033 qs72 q157 q2034, ⟨rfl, by decide +kernel, by decide +kernel, by decide +kernel⟩, Nat.le_of_ble_eq_true rfl⟩
noncomputable def m_codesTold_L89 (k128 : MS → Option (MS)) (s89 : Int32 → MS → Option (MS)) (x2 : Int32) (z12 : MS) : Option (MS) :=
  if (mI z12 94) ≤ x2 then
    k128 z12
  else
    ck (inb x2 (mN 93)) <|
    ck (inb (mI z12 50) (mN 49)) <|
    nm (wA z12 49 (Int32.toNatClampNeg (mI z12 50)) (mA z12 93 (Int32.toNatClampNeg x2))) fun z13 =>
    nm (wI z13 50 ((mI z13 50) + 1)) fun z14 =>
    s89 (x2 + 1) z14
noncomputable def m_codesTold (a1 : Int32) (a2 : Int32) (z : MS) : Option (MS) :=
  jn (fun (z1 : MS) =>
    if (mI z1 5) = 0 then
      jn (fun (x1 : Bool) (z2 : MS) =>
        nm (wI z2 52 (bI x1)) fun z3 =>
        nm (wI z3 94 0) fun z4 =>
        nm (wI z4 96 0) fun z5 =>
        nm (wI z5 97 0) fun z6 =>
        nm (wI z6 98 0) fun z7 =>
        bnv (m_qTest z7) fun z8 =>
        if (mI z8 5) = 0 then
          ck (inb a1 (mN 47)) <|
          nm (wA z8 47 (Int32.toNatClampNeg a1) (mI z8 50)) fun z9 =>
          jn (fun (z10 : MS) =>
            ck (inb a1 (mN 48)) <|
            nm (wA z10 48 (Int32.toNatClampNeg a1) (mI z10 50)) fun z11 =>
            some z11) fun k128 =>
          fx (m_codesTold_L89 k128) (fun _ _ => none) FU 0 z9
        else
          some z8) fun j42 =>
      if a1 = 2 then
        j42 true z1
      else
        j42 false z1
    else
      some z1) fun j23 =>
  if (mI z 5) = 0 then
    ck (inb a1 (mN 47)) <|
    if (mA z 47 (Int32.toNatClampNeg a1)) = (-1) then
      j23 z
    else
      bnv (m_fail 5 a2 z) fun z15 =>
      j23 z15
  else
    j23 z
set_option maxHeartbeats 1000000 in
theorem c_codesTold {l : Launch} {D : MD} {o : Nat} {ad : Nat → Nat} {a1 : Int32} {a2 : Int32} {z z' : MS} (hf : m_codesTold a1 a2 z = some z') : MMet l D o ad yX6_codesTold cX6_codesTold 4 (none) 10 [.ref o, .int a1, .int a2] z z' (none) := by
  unfold m_codesTold at hf
  refine m_head pnX6 rfl (Nat.le_of_ble_eq_true rfl) (fun m Z H0 ls X hM hl => ?_)
  have G := X.g
  have hl : lv_has ls 4 [(0, .ref o), (1, .int a1), (2, .int a2)] := hl
  refine g_aload_n G dX6_codesTold_0 rfl (lv_at hl 0 rfl) ?_
  refine mg_i X hM mf_5 dX6_codesTold_1 ?_
  obtain ⟨j23, hj23, hf⟩ := jn_open hf
  have J23 : ∀ (z1 : MS) (H : Heap) (locs : List Loc), j23 z1 = some z' → MI D o ad H0 z1 H locs → ∀ ls : Array Slot, lv_has ls 4 [(0, .ref o), (1, .int a1)] → Z H locs 0 0 (F0 m 23 ls []) := by
    intro z1 H locs hf hM ls hl
    rw [hj23] at hf
    refine g_aload_n G dX6_codesTold_23 rfl (lv_at hl 0 rfl) ?_
    refine mg_i X hM mf_5 dX6_codesTold_24 ?_
    refine g_if_eq (tgt := 31) G dX6_codesTold_27 rfl (fun c1 => ?_) (fun c1 => ?_)
    · have hf := it_pos c1 hf
      refine g_aload_n G dX6_codesTold_31 rfl (lv_at hl 0 rfl) ?_
      refine g_iload_n G dX6_codesTold_32 rfl (lv_at hl 1 rfl) ?_
      refine g_iconst (v := 2) G dX6_codesTold_33 rfl ?_
      obtain ⟨j42, hj42, hf⟩ := jn_open hf
      have J42 : ∀ (x1 : Bool) (z2 : MS) (H : Heap) (locs : List Loc), j42 x1 z2 = some z' → MI D o ad H0 z2 H locs → ∀ ls : Array Slot, lv_has ls 4 [(0, .ref o), (1, .int a1)] → Z H locs 0 0 (F0 m 42 ls [.int (bI x1), .ref o]) := by
        intro x1 z2 H locs hf hM ls hl
        rw [hj42] at hf
        obtain ⟨z3, hz3, hf⟩ := nm_open hf
        refine mp_i X hM mf_52 hz3 dX6_codesTold_42 (fun H locs hM => ?_)
        refine g_aload_n G dX6_codesTold_45 rfl (lv_at hl 0 rfl) ?_
        refine g_iconst (v := 0) G dX6_codesTold_46 rfl ?_
        obtain ⟨z4, hz4, hf⟩ := nm_open hf
        refine mp_i X hM mf_94 hz4 dX6_codesTold_47 (fun H locs hM => ?_)
        refine g_aload_n G dX6_codesTold_50 rfl (lv_at hl 0 rfl) ?_
        refine g_iconst (v := 0) G dX6_codesTold_51 rfl ?_
        obtain ⟨z5, hz5, hf⟩ := nm_open hf
        refine mp_i X hM mf_96 hz5 dX6_codesTold_52 (fun H locs hM => ?_)
        refine g_aload_n G dX6_codesTold_55 rfl (lv_at hl 0 rfl) ?_
        refine g_iconst (v := 0) G dX6_codesTold_56 rfl ?_
        obtain ⟨z6, hz6, hf⟩ := nm_open hf
        refine mp_i X hM mf_97 hz6 dX6_codesTold_57 (fun H locs hM => ?_)
        refine g_aload_n G dX6_codesTold_60 rfl (lv_at hl 0 rfl) ?_
        refine g_iconst (v := 0) G dX6_codesTold_61 rfl ?_
        obtain ⟨z7, hz7, hf⟩ := nm_open hf
        refine mp_i X hM mf_98 hz7 dX6_codesTold_62 (fun H locs hM => ?_)
        refine g_aload_n G dX6_codesTold_65 rfl (lv_at hl 0 rfl) ?_
        obtain ⟨z8, h1, hf⟩ := bnv_open hf
        refine m_callVv (As := []) (rest := []) X hM hl mc_qTest (c_qTest h1) rfl (Nat.le_of_ble_eq_true rfl) (Nat.le_of_ble_eq_true rfl) rfl dX6_codesTold_66 (fun H locs hM => ?_)
        refine g_aload_n G dX6_codesTold_69 rfl (lv_at hl 0 rfl) ?_
        refine mg_i X hM mf_5 dX6_codesTold_70 ?_
        refine g_if_eq (tgt := 77) G dX6_codesTold_73 rfl (fun c2 => ?_) (fun c2 => ?_)
        · have hf := it_pos c2 hf
          refine g_aload_n G dX6_codesTold_77 rfl (lv_at hl 0 rfl) ?_
          refine mg_a X hM mf_47 dX6_codesTold_78 ?_
          refine g_iload_n G dX6_codesTold_81 rfl (lv_at hl 1 rfl) ?_
          refine g_aload_n G dX6_codesTold_82 rfl (lv_at hl 0 rfl) ?_
          refine mg_i X hM mf_50 dX6_codesTold_83 ?_
          obtain ⟨b1, hf⟩ := ck_open hf
          obtain ⟨z9, hz9, hf⟩ := nm_open hf
          refine m_iast X hM (mIs.of mf_47) b1 hz9 dX6_codesTold_86 (fun H locs hM => ?_)
          refine g_iconst (v := 0) G dX6_codesTold_87 rfl ?_
          refine g_istore_n (lv' := [(3, .int 0), (0, .ref o), (1, .int a1)]) G dX6_codesTold_88 rfl hl (Nat.le_of_ble_eq_true rfl) rfl (fun ls hl => ?_)
          obtain ⟨k128, hk128, hf⟩ := jn_open hf
          have K128 : ∀ (z10 : MS) (H : Heap) (locs : List Loc), k128 z10 = some z' → MI D o ad H0 z10 H locs → ∀ ls : Array Slot, lv_has ls 4 [(0, .ref o), (1, .int a1)] → Z H locs 0 0 (F0 m 128 ls []) := by
            intro z10 H locs hf hM ls hl
            rw [hk128] at hf
            refine g_aload_n G dX6_codesTold_128 rfl (lv_at hl 0 rfl) ?_
            refine mg_a X hM mf_48 dX6_codesTold_129 ?_
            refine g_iload_n G dX6_codesTold_132 rfl (lv_at hl 1 rfl) ?_
            refine g_aload_n G dX6_codesTold_133 rfl (lv_at hl 0 rfl) ?_
            refine mg_i X hM mf_50 dX6_codesTold_134 ?_
            obtain ⟨b2, hf⟩ := ck_open hf
            obtain ⟨z11, hz11, hf⟩ := nm_open hf
            refine m_iast X hM (mIs.of mf_48) b2 hz11 dX6_codesTold_137 (fun H locs hM => ?_)
            exact m_vret X hM hf dX6_codesTold_138
          have L89 : ∀ (n : Nat) (x2 : Int32) (z12 : MS) (H : Heap) (locs : List Loc), fx (m_codesTold_L89 k128) (fun _ _ => none) n x2 z12 = some z' → MI D o ad H0 z12 H locs → ∀ ls : Array Slot, lv_has ls 4 [(0, .ref o), (1, .int a1), (3, .int x2)] → Z H locs 0 0 (F0 m 89 ls []) := by
            intro n
            induction n with
            | zero => intro x2 z12 H locs hf; exact absurd hf (by intro q; cases q)
            | succ n ih89 =>
              intro x2 z12 H locs hf hM ls hl
              rw [fx_s] at hf
              generalize fx (m_codesTold_L89 k128) (fun _ _ => none) n = s89 at hf ih89
              unfold m_codesTold_L89 at hf
              refine g_iload_n G dX6_codesTold_89 rfl (lv_at hl 2 rfl) ?_
              refine g_aload_n G dX6_codesTold_90 rfl (lv_at hl 0 rfl) ?_
              refine mg_i X hM mf_94 dX6_codesTold_91 ?_
              refine g_icmp_ge (tgt := 128) G dX6_codesTold_94 rfl (fun c3 => ?_) (fun c3 => ?_)
              · have hf := it_pos c3 hf
                exact K128 _ _ _ hf hM ls (lv_sub hl [0, 1] rfl)
              · have hf := it_neg c3 hf
                refine g_aload_n G dX6_codesTold_97 rfl (lv_at hl 0 rfl) ?_
                refine mg_a X hM mf_49 dX6_codesTold_98 ?_
                refine g_aload_n G dX6_codesTold_101 rfl (lv_at hl 0 rfl) ?_
                refine mg_i X hM mf_50 dX6_codesTold_102 ?_
                refine g_aload_n G dX6_codesTold_105 rfl (lv_at hl 0 rfl) ?_
                refine mg_a X hM mf_93 dX6_codesTold_106 ?_
                refine g_iload_n G dX6_codesTold_109 rfl (lv_at hl 2 rfl) ?_
                obtain ⟨b3, hf⟩ := ck_open hf
                refine m_iald X hM (mIs.of mf_93) b3 dX6_codesTold_110 ?_
                obtain ⟨b4, hf⟩ := ck_open hf
                obtain ⟨z13, hz13, hf⟩ := nm_open hf
                refine m_iast X hM (mIs.of mf_49) b4 hz13 dX6_codesTold_111 (fun H locs hM => ?_)
                refine g_aload_n G dX6_codesTold_112 rfl (lv_at hl 0 rfl) ?_
                refine g_dup G dX6_codesTold_113 rfl ?_
                refine mg_i X hM mf_50 dX6_codesTold_114 ?_
                refine g_iconst (v := 1) G dX6_codesTold_117 rfl ?_
                refine g_iadd G dX6_codesTold_118 ?_
                obtain ⟨z14, hz14, hf⟩ := nm_open hf
                refine mp_i X hM mf_50 hz14 dX6_codesTold_119 (fun H locs hM => ?_)
                refine g_iinc (v := x2 + 1) (lv' := [(3, .int (x2 + 1)), (0, .ref o), (1, .int a1)]) G dX6_codesTold_122 hl (k := 2) rfl rfl (Nat.le_of_ble_eq_true rfl) rfl (fun ls hl => ?_)
                refine g_goto (tgt := 89) G dX6_codesTold_125 rfl ?_
                exact ih89 _ _ _ _ hf hM ls (lv_sub hl [1, 2, 0] rfl)
          exact L89 FU _ _ _ _ hf hM ls (lv_sub hl [1, 2, 0] rfl)
        · have hf := it_neg c2 hf
          exact m_vret X hM hf dX6_codesTold_76
      refine g_icmp_ne (tgt := 41) G dX6_codesTold_34 rfl (fun c4 => ?_) (fun c4 => ?_)
      · have hf := it_neg c4 hf
        refine g_iconst (v := 0) G dX6_codesTold_41 rfl ?_
        exact J42 _ _ _ _ hf hM ls (lv_sub hl [0, 1] rfl)
      · have hf := it_pos c4 hf
        refine g_iconst (v := 1) G dX6_codesTold_37 rfl ?_
        refine g_goto (tgt := 42) G dX6_codesTold_38 rfl ?_
        exact J42 _ _ _ _ hf hM ls (lv_sub hl [0, 1] rfl)
    · have hf := it_neg c1 hf
      exact m_vret X hM hf dX6_codesTold_30
  refine g_if_ne (tgt := 23) G dX6_codesTold_4 rfl (fun c5 => ?_) (fun c5 => ?_)
  · have hf := it_neg c5 hf
    exact J23 _ _ _ hf hM ls (lv_sub hl [0, 1] rfl)
  · have hf := it_pos c5 hf
    refine g_aload_n G dX6_codesTold_7 rfl (lv_at hl 0 rfl) ?_
    refine mg_a X hM mf_47 dX6_codesTold_8 ?_
    refine g_iload_n G dX6_codesTold_11 rfl (lv_at hl 1 rfl) ?_
    obtain ⟨b5, hf⟩ := ck_open hf
    refine m_iald X hM (mIs.of mf_47) b5 dX6_codesTold_12 ?_
    refine g_iconst (v := (-1)) G dX6_codesTold_13 rfl ?_
    refine g_icmp_eq (tgt := 23) G dX6_codesTold_14 rfl (fun c6 => ?_) (fun c6 => ?_)
    · have hf := it_pos c6 hf
      exact J23 _ _ _ hf hM ls (lv_sub hl [0, 1] rfl)
    · have hf := it_neg c6 hf
      refine g_aload_n G dX6_codesTold_17 rfl (lv_at hl 0 rfl) ?_
      refine g_iconst (v := 5) G dX6_codesTold_18 rfl ?_
      refine g_iload_n G dX6_codesTold_19 rfl (lv_at hl 2 rfl) ?_
      obtain ⟨z15, h2, hf⟩ := bnv_open hf
      refine m_callVv (As := [.int 5, .int a2]) (rest := []) X hM hl mc_fail (c_fail h2) rfl (Nat.le_of_ble_eq_true rfl) (Nat.le_of_ble_eq_true rfl) rfl dX6_codesTold_20 (fun H locs hM => ?_)
      exact J23 _ _ _ hf hM ls (lv_sub hl [0, 1] rfl)
theorem mc_statementTold : mcV yX6_statementTold cX6_statementTold 2 (none) 0 383 := ⟨lw_V q1956 q1958 qs56 q157 q1959, ⟨rfl, by decide +kernel, by decide +kernel, by decide +kernel⟩, Nat.le_of_ble_eq_true rfl⟩
noncomputable def m_statementTold (z : MS) : Option (MS) :=
  if (mI z 51) = 80 then
    bnv (m_fail 5 (mI z 2) z) fun z29 =>
    some z29
  else
    bnd (m_takes 10 z) fun r1 z1 =>
    jn (fun (z2 : MS) =>
      bnv (m_asksSign 59 z2) fun z3 =>
      nm (wI z3 51 ((mI z3 51) + 1)) fun z4 =>
      some z4) fun j250 =>
    if (bI r1) = 0 then
      bnd (m_takes 12 z1) fun r2 z5 =>
      if (bI r2) = 0 then
        bnd (m_takes 14 z5) fun r3 z6 =>
        if (bI r3) = 0 then
          bnd (m_takes 15 z6) fun r4 z7 =>
          if (bI r4) = 0 then
            bnd (m_takes 16 z7) fun r5 z8 =>
            if (bI r5) = 0 then
              bnd (m_takes 18 z8) fun r6 z9 =>
              if (bI r6) = 0 then
                bnd (m_takes 19 z9) fun r7 z10 =>
                if (bI r7) = 0 then
                  bnd (m_takes 20 z10) fun r8 z11 =>
                  if (bI r8) = 0 then
                    bnd (m_takes 21 z11) fun r9 z12 =>
                    if (bI r9) = 0 then
                      bnd (m_takes 22 z12) fun r10 z13 =>
                      if (bI r10) = 0 then
                        bnv (m_asks 23 z13) fun z14 =>
                        bnd (m_number 0 100 z14) fun r11 z15 =>
                        nm (wA z15 46 (Int32.toNatClampNeg 2) r11) fun z16 =>
                        j250 z16
                      else
                        bnd (m_number 0 9 z13) fun r12 z17 =>
                        nm (wA z17 46 (Int32.toNatClampNeg 1) r12) fun z18 =>
                        j250 z18
                    else
                      bnd (m_number 0 99 z12) fun r13 z19 =>
                      nm (wA z19 46 (Int32.toNatClampNeg 0) r13) fun z20 =>
                      j250 z20
                  else
                    bnv (m_codesTold 2 (mI z 2) z11) fun z21 =>
                    j250 z21
                else
                  bnv (m_codesTold 1 (mI z 2) z10) fun z22 =>
                  j250 z22
              else
                bnv (m_codesTold 0 (mI z 2) z9) fun z23 =>
                j250 z23
            else
              bnv (m_taughtTold z8) fun z24 =>
              j250 z24
          else
            bnv (m_beliefTold false z7) fun z25 =>
            j250 z25
        else
          bnv (m_beliefTold true z6) fun z26 =>
          j250 z26
      else
        bnv (m_personTold (mI z 2) z5) fun z27 =>
        j250 z27
    else
      bnv (m_factTold (mI z 2) z1) fun z28 =>
      j250 z28
set_option maxHeartbeats 1000000 in
theorem c_statementTold {l : Launch} {D : MD} {o : Nat} {ad : Nat → Nat} {z z' : MS} (hf : m_statementTold z = some z') : MMet l D o ad yX6_statementTold cX6_statementTold 2 (none) 11 [.ref o] z z' (none) := by
  unfold m_statementTold at hf
  refine m_head pnX6 rfl (Nat.le_of_ble_eq_true rfl) (fun m Z H0 ls X hM hl => ?_)
  have G := X.g
  have hl : lv_has ls 2 [(0, .ref o)] := hl
  refine g_aload_n G dX6_statementTold_0 rfl (lv_at hl 0 rfl) ?_
  refine mg_i X hM mf_2 dX6_statementTold_1 ?_
  refine g_istore_n (lv' := [(1, .int (mI z 2)), (0, .ref o)]) G dX6_statementTold_4 rfl hl (Nat.le_of_ble_eq_true rfl) rfl (fun ls hl => ?_)
  refine g_aload_n G dX6_statementTold_5 rfl (lv_at hl 1 rfl) ?_
  refine mg_i X hM mf_51 dX6_statementTold_6 ?_
  refine g_bipush (v := 80) G dX6_statementTold_9 rfl ?_
  refine g_icmp_ne (tgt := 21) G dX6_statementTold_11 rfl (fun c1 => ?_) (fun c1 => ?_)
  · have hf := it_neg c1 hf
    refine g_aload_n G dX6_statementTold_21 rfl (lv_at hl 1 rfl) ?_
    refine g_aload_n G dX6_statementTold_22 rfl (lv_at hl 1 rfl) ?_
    refine mg_a X hM mf_10 dX6_statementTold_23 ?_
    obtain ⟨r1, z1, h1, hf⟩ := bnd_open hf
    refine m_callVi (As := [.ref (ad 10)]) (rest := []) X hM hl mc_takes (c_takes (mIs.of mf_10) h1) rfl (Nat.le_of_ble_eq_true rfl) (Nat.le_of_ble_eq_true rfl) rfl dX6_statementTold_26 (fun H locs hM => ?_)
    obtain ⟨j250, hj250, hf⟩ := jn_open hf
    have J250 : ∀ (z2 : MS) (H : Heap) (locs : List Loc), j250 z2 = some z' → MI D o ad H0 z2 H locs → ∀ ls : Array Slot, lv_has ls 2 [(0, .ref o)] → Z H locs 0 0 (F0 m 250 ls []) := by
      intro z2 H locs hf hM ls hl
      rw [hj250] at hf
      refine g_aload_n G dX6_statementTold_250 rfl (lv_at hl 0 rfl) ?_
      refine g_bipush (v := 59) G dX6_statementTold_251 rfl ?_
      obtain ⟨z3, h2, hf⟩ := bnv_open hf
      refine m_callVv (As := [.int 59]) (rest := []) X hM hl mc_asksSign (c_asksSign h2) rfl (Nat.le_of_ble_eq_true rfl) (Nat.le_of_ble_eq_true rfl) rfl dX6_statementTold_253 (fun H locs hM => ?_)
      refine g_aload_n G dX6_statementTold_256 rfl (lv_at hl 0 rfl) ?_
      refine g_dup G dX6_statementTold_257 rfl ?_
      refine mg_i X hM mf_51 dX6_statementTold_258 ?_
      refine g_iconst (v := 1) G dX6_statementTold_261 rfl ?_
      refine g_iadd G dX6_statementTold_262 ?_
      obtain ⟨z4, hz4, hf⟩ := nm_open hf
      refine mp_i X hM mf_51 hz4 dX6_statementTold_263 (fun H locs hM => ?_)
      exact m_vret X hM hf dX6_statementTold_266
    refine g_if_eq (tgt := 40) G dX6_statementTold_29 rfl (fun c2 => ?_) (fun c2 => ?_)
    · have hf := it_pos c2 hf
      refine g_aload_n G dX6_statementTold_40 rfl (lv_at hl 1 rfl) ?_
      refine g_aload_n G dX6_statementTold_41 rfl (lv_at hl 1 rfl) ?_
      refine mg_a X hM mf_12 dX6_statementTold_42 ?_
      obtain ⟨r2, z5, h3, hf⟩ := bnd_open hf
      refine m_callVi (As := [.ref (ad 12)]) (rest := []) X hM hl mc_takes (c_takes (mIs.of mf_12) h3) rfl (Nat.le_of_ble_eq_true rfl) (Nat.le_of_ble_eq_true rfl) rfl dX6_statementTold_45 (fun H locs hM => ?_)
      refine g_if_eq (tgt := 59) G dX6_statementTold_48 rfl (fun c3 => ?_) (fun c3 => ?_)
      · have hf := it_pos c3 hf
        refine g_aload_n G dX6_statementTold_59 rfl (lv_at hl 1 rfl) ?_
        refine g_aload_n G dX6_statementTold_60 rfl (lv_at hl 1 rfl) ?_
        refine mg_a X hM mf_14 dX6_statementTold_61 ?_
        obtain ⟨r3, z6, h4, hf⟩ := bnd_open hf
        refine m_callVi (As := [.ref (ad 14)]) (rest := []) X hM hl mc_takes (c_takes (mIs.of mf_14) h4) rfl (Nat.le_of_ble_eq_true rfl) (Nat.le_of_ble_eq_true rfl) rfl dX6_statementTold_64 (fun H locs hM => ?_)
        refine g_if_eq (tgt := 78) G dX6_statementTold_67 rfl (fun c4 => ?_) (fun c4 => ?_)
        · have hf := it_pos c4 hf
          refine g_aload_n G dX6_statementTold_78 rfl (lv_at hl 1 rfl) ?_
          refine g_aload_n G dX6_statementTold_79 rfl (lv_at hl 1 rfl) ?_
          refine mg_a X hM mf_15 dX6_statementTold_80 ?_
          obtain ⟨r4, z7, h5, hf⟩ := bnd_open hf
          refine m_callVi (As := [.ref (ad 15)]) (rest := []) X hM hl mc_takes (c_takes (mIs.of mf_15) h5) rfl (Nat.le_of_ble_eq_true rfl) (Nat.le_of_ble_eq_true rfl) rfl dX6_statementTold_83 (fun H locs hM => ?_)
          refine g_if_eq (tgt := 97) G dX6_statementTold_86 rfl (fun c5 => ?_) (fun c5 => ?_)
          · have hf := it_pos c5 hf
            refine g_aload_n G dX6_statementTold_97 rfl (lv_at hl 1 rfl) ?_
            refine g_aload_n G dX6_statementTold_98 rfl (lv_at hl 1 rfl) ?_
            refine mg_a X hM mf_16 dX6_statementTold_99 ?_
            obtain ⟨r5, z8, h6, hf⟩ := bnd_open hf
            refine m_callVi (As := [.ref (ad 16)]) (rest := []) X hM hl mc_takes (c_takes (mIs.of mf_16) h6) rfl (Nat.le_of_ble_eq_true rfl) (Nat.le_of_ble_eq_true rfl) rfl dX6_statementTold_102 (fun H locs hM => ?_)
            refine g_if_eq (tgt := 115) G dX6_statementTold_105 rfl (fun c6 => ?_) (fun c6 => ?_)
            · have hf := it_pos c6 hf
              refine g_aload_n G dX6_statementTold_115 rfl (lv_at hl 1 rfl) ?_
              refine g_aload_n G dX6_statementTold_116 rfl (lv_at hl 1 rfl) ?_
              refine mg_a X hM mf_18 dX6_statementTold_117 ?_
              obtain ⟨r6, z9, h7, hf⟩ := bnd_open hf
              refine m_callVi (As := [.ref (ad 18)]) (rest := []) X hM hl mc_takes (c_takes (mIs.of mf_18) h7) rfl (Nat.le_of_ble_eq_true rfl) (Nat.le_of_ble_eq_true rfl) rfl dX6_statementTold_120 (fun H locs hM => ?_)
              refine g_if_eq (tgt := 135) G dX6_statementTold_123 rfl (fun c7 => ?_) (fun c7 => ?_)
              · have hf := it_pos c7 hf
                refine g_aload_n G dX6_statementTold_135 rfl (lv_at hl 1 rfl) ?_
                refine g_aload_n G dX6_statementTold_136 rfl (lv_at hl 1 rfl) ?_
                refine mg_a X hM mf_19 dX6_statementTold_137 ?_
                obtain ⟨r7, z10, h8, hf⟩ := bnd_open hf
                refine m_callVi (As := [.ref (ad 19)]) (rest := []) X hM hl mc_takes (c_takes (mIs.of mf_19) h8) rfl (Nat.le_of_ble_eq_true rfl) (Nat.le_of_ble_eq_true rfl) rfl dX6_statementTold_140 (fun H locs hM => ?_)
                refine g_if_eq (tgt := 155) G dX6_statementTold_143 rfl (fun c8 => ?_) (fun c8 => ?_)
                · have hf := it_pos c8 hf
                  refine g_aload_n G dX6_statementTold_155 rfl (lv_at hl 1 rfl) ?_
                  refine g_aload_n G dX6_statementTold_156 rfl (lv_at hl 1 rfl) ?_
                  refine mg_a X hM mf_20 dX6_statementTold_157 ?_
                  obtain ⟨r8, z11, h9, hf⟩ := bnd_open hf
                  refine m_callVi (As := [.ref (ad 20)]) (rest := []) X hM hl mc_takes (c_takes (mIs.of mf_20) h9) rfl (Nat.le_of_ble_eq_true rfl) (Nat.le_of_ble_eq_true rfl) rfl dX6_statementTold_160 (fun H locs hM => ?_)
                  refine g_if_eq (tgt := 175) G dX6_statementTold_163 rfl (fun c9 => ?_) (fun c9 => ?_)
                  · have hf := it_pos c9 hf
                    refine g_aload_n G dX6_statementTold_175 rfl (lv_at hl 1 rfl) ?_
                    refine g_aload_n G dX6_statementTold_176 rfl (lv_at hl 1 rfl) ?_
                    refine mg_a X hM mf_21 dX6_statementTold_177 ?_
                    obtain ⟨r9, z12, h10, hf⟩ := bnd_open hf
                    refine m_callVi (As := [.ref (ad 21)]) (rest := []) X hM hl mc_takes (c_takes (mIs.of mf_21) h10) rfl (Nat.le_of_ble_eq_true rfl) (Nat.le_of_ble_eq_true rfl) rfl dX6_statementTold_180 (fun H locs hM => ?_)
                    refine g_if_eq (tgt := 202) G dX6_statementTold_183 rfl (fun c10 => ?_) (fun c10 => ?_)
                    · have hf := it_pos c10 hf
                      refine g_aload_n G dX6_statementTold_202 rfl (lv_at hl 1 rfl) ?_
                      refine g_aload_n G dX6_statementTold_203 rfl (lv_at hl 1 rfl) ?_
                      refine mg_a X hM mf_22 dX6_statementTold_204 ?_
                      obtain ⟨r10, z13, h11, hf⟩ := bnd_open hf
                      refine m_callVi (As := [.ref (ad 22)]) (rest := []) X hM hl mc_takes (c_takes (mIs.of mf_22) h11) rfl (Nat.le_of_ble_eq_true rfl) (Nat.le_of_ble_eq_true rfl) rfl dX6_statementTold_207 (fun H locs hM => ?_)
                      refine g_if_eq (tgt := 229) G dX6_statementTold_210 rfl (fun c11 => ?_) (fun c11 => ?_)
                      · have hf := it_pos c11 hf
                        refine g_aload_n G dX6_statementTold_229 rfl (lv_at hl 1 rfl) ?_
                        refine g_aload_n G dX6_statementTold_230 rfl (lv_at hl 1 rfl) ?_
                        refine mg_a X hM mf_23 dX6_statementTold_231 ?_
                        obtain ⟨z14, h12, hf⟩ := bnv_open hf
                        refine m_callVv (As := [.ref (ad 23)]) (rest := []) X hM hl mc_asks (c_asks (mIs.of mf_23) h12) rfl (Nat.le_of_ble_eq_true rfl) (Nat.le_of_ble_eq_true rfl) rfl dX6_statementTold_234 (fun H locs hM => ?_)
                        refine g_aload_n G dX6_statementTold_237 rfl (lv_at hl 1 rfl) ?_
                        refine mg_a X hM mf_46 dX6_statementTold_238 ?_
                        refine g_iconst (v := 2) G dX6_statementTold_241 rfl ?_
                        refine g_aload_n G dX6_statementTold_242 rfl (lv_at hl 1 rfl) ?_
                        refine g_iconst (v := 0) G dX6_statementTold_243 rfl ?_
                        refine g_bipush (v := 100) G dX6_statementTold_244 rfl ?_
                        obtain ⟨r11, z15, h13, hf⟩ := bnd_open hf
                        refine m_callVi (As := [.int 0, .int 100]) (rest := [.int 2, .ref (ad 46)]) X hM hl mc_number (c_number h13) rfl (Nat.le_of_ble_eq_true rfl) (Nat.le_of_ble_eq_true rfl) rfl dX6_statementTold_246 (fun H locs hM => ?_)
                        obtain ⟨z16, hz16, hf⟩ := nm_open hf
                        refine m_iast X hM (mIs.of mf_46) (by decide) hz16 dX6_statementTold_249 (fun H locs hM => ?_)
                        exact J250 _ _ _ hf hM ls (lv_sub hl [1] rfl)
                      · have hf := it_neg c11 hf
                        refine g_aload_n G dX6_statementTold_213 rfl (lv_at hl 1 rfl) ?_
                        refine mg_a X hM mf_46 dX6_statementTold_214 ?_
                        refine g_iconst (v := 1) G dX6_statementTold_217 rfl ?_
                        refine g_aload_n G dX6_statementTold_218 rfl (lv_at hl 1 rfl) ?_
                        refine g_iconst (v := 0) G dX6_statementTold_219 rfl ?_
                        refine g_bipush (v := 9) G dX6_statementTold_220 rfl ?_
                        obtain ⟨r12, z17, h14, hf⟩ := bnd_open hf
                        refine m_callVi (As := [.int 0, .int 9]) (rest := [.int 1, .ref (ad 46)]) X hM hl mc_number (c_number h14) rfl (Nat.le_of_ble_eq_true rfl) (Nat.le_of_ble_eq_true rfl) rfl dX6_statementTold_222 (fun H locs hM => ?_)
                        obtain ⟨z18, hz18, hf⟩ := nm_open hf
                        refine m_iast X hM (mIs.of mf_46) (by decide) hz18 dX6_statementTold_225 (fun H locs hM => ?_)
                        refine g_goto (tgt := 250) G dX6_statementTold_226 rfl ?_
                        exact J250 _ _ _ hf hM ls (lv_sub hl [1] rfl)
                    · have hf := it_neg c10 hf
                      refine g_aload_n G dX6_statementTold_186 rfl (lv_at hl 1 rfl) ?_
                      refine mg_a X hM mf_46 dX6_statementTold_187 ?_
                      refine g_iconst (v := 0) G dX6_statementTold_190 rfl ?_
                      refine g_aload_n G dX6_statementTold_191 rfl (lv_at hl 1 rfl) ?_
                      refine g_iconst (v := 0) G dX6_statementTold_192 rfl ?_
                      refine g_bipush (v := 99) G dX6_statementTold_193 rfl ?_
                      obtain ⟨r13, z19, h15, hf⟩ := bnd_open hf
                      refine m_callVi (As := [.int 0, .int 99]) (rest := [.int 0, .ref (ad 46)]) X hM hl mc_number (c_number h15) rfl (Nat.le_of_ble_eq_true rfl) (Nat.le_of_ble_eq_true rfl) rfl dX6_statementTold_195 (fun H locs hM => ?_)
                      obtain ⟨z20, hz20, hf⟩ := nm_open hf
                      refine m_iast X hM (mIs.of mf_46) (by decide) hz20 dX6_statementTold_198 (fun H locs hM => ?_)
                      refine g_goto (tgt := 250) G dX6_statementTold_199 rfl ?_
                      exact J250 _ _ _ hf hM ls (lv_sub hl [1] rfl)
                  · have hf := it_neg c9 hf
                    refine g_aload_n G dX6_statementTold_166 rfl (lv_at hl 1 rfl) ?_
                    refine g_iconst (v := 2) G dX6_statementTold_167 rfl ?_
                    refine g_iload_n G dX6_statementTold_168 rfl (lv_at hl 0 rfl) ?_
                    obtain ⟨z21, h16, hf⟩ := bnv_open hf
                    refine m_callVv (As := [.int 2, .int (mI z 2)]) (rest := []) X hM hl mc_codesTold (c_codesTold h16) rfl (Nat.le_of_ble_eq_true rfl) (Nat.le_of_ble_eq_true rfl) rfl dX6_statementTold_169 (fun H locs hM => ?_)
                    refine g_goto (tgt := 250) G dX6_statementTold_172 rfl ?_
                    exact J250 _ _ _ hf hM ls (lv_sub hl [1] rfl)
                · have hf := it_neg c8 hf
                  refine g_aload_n G dX6_statementTold_146 rfl (lv_at hl 1 rfl) ?_
                  refine g_iconst (v := 1) G dX6_statementTold_147 rfl ?_
                  refine g_iload_n G dX6_statementTold_148 rfl (lv_at hl 0 rfl) ?_
                  obtain ⟨z22, h17, hf⟩ := bnv_open hf
                  refine m_callVv (As := [.int 1, .int (mI z 2)]) (rest := []) X hM hl mc_codesTold (c_codesTold h17) rfl (Nat.le_of_ble_eq_true rfl) (Nat.le_of_ble_eq_true rfl) rfl dX6_statementTold_149 (fun H locs hM => ?_)
                  refine g_goto (tgt := 250) G dX6_statementTold_152 rfl ?_
                  exact J250 _ _ _ hf hM ls (lv_sub hl [1] rfl)
              · have hf := it_neg c7 hf
                refine g_aload_n G dX6_statementTold_126 rfl (lv_at hl 1 rfl) ?_
                refine g_iconst (v := 0) G dX6_statementTold_127 rfl ?_
                refine g_iload_n G dX6_statementTold_128 rfl (lv_at hl 0 rfl) ?_
                obtain ⟨z23, h18, hf⟩ := bnv_open hf
                refine m_callVv (As := [.int 0, .int (mI z 2)]) (rest := []) X hM hl mc_codesTold (c_codesTold h18) rfl (Nat.le_of_ble_eq_true rfl) (Nat.le_of_ble_eq_true rfl) rfl dX6_statementTold_129 (fun H locs hM => ?_)
                refine g_goto (tgt := 250) G dX6_statementTold_132 rfl ?_
                exact J250 _ _ _ hf hM ls (lv_sub hl [1] rfl)
            · have hf := it_neg c6 hf
              refine g_aload_n G dX6_statementTold_108 rfl (lv_at hl 1 rfl) ?_
              obtain ⟨z24, h19, hf⟩ := bnv_open hf
              refine m_callVv (As := []) (rest := []) X hM hl mc_taughtTold (c_taughtTold h19) rfl (Nat.le_of_ble_eq_true rfl) (Nat.le_of_ble_eq_true rfl) rfl dX6_statementTold_109 (fun H locs hM => ?_)
              refine g_goto (tgt := 250) G dX6_statementTold_112 rfl ?_
              exact J250 _ _ _ hf hM ls (lv_sub hl [1] rfl)
          · have hf := it_neg c5 hf
            refine g_aload_n G dX6_statementTold_89 rfl (lv_at hl 1 rfl) ?_
            refine g_iconst (v := 0) G dX6_statementTold_90 rfl ?_
            obtain ⟨z25, h20, hf⟩ := bnv_open hf
            refine m_callVv (As := [.int (bI false)]) (rest := []) X hM hl mc_beliefTold (c_beliefTold h20) rfl (Nat.le_of_ble_eq_true rfl) (Nat.le_of_ble_eq_true rfl) rfl dX6_statementTold_91 (fun H locs hM => ?_)
            refine g_goto (tgt := 250) G dX6_statementTold_94 rfl ?_
            exact J250 _ _ _ hf hM ls (lv_sub hl [1] rfl)
        · have hf := it_neg c4 hf
          refine g_aload_n G dX6_statementTold_70 rfl (lv_at hl 1 rfl) ?_
          refine g_iconst (v := 1) G dX6_statementTold_71 rfl ?_
          obtain ⟨z26, h21, hf⟩ := bnv_open hf
          refine m_callVv (As := [.int (bI true)]) (rest := []) X hM hl mc_beliefTold (c_beliefTold h21) rfl (Nat.le_of_ble_eq_true rfl) (Nat.le_of_ble_eq_true rfl) rfl dX6_statementTold_72 (fun H locs hM => ?_)
          refine g_goto (tgt := 250) G dX6_statementTold_75 rfl ?_
          exact J250 _ _ _ hf hM ls (lv_sub hl [1] rfl)
      · have hf := it_neg c3 hf
        refine g_aload_n G dX6_statementTold_51 rfl (lv_at hl 1 rfl) ?_
        refine g_iload_n G dX6_statementTold_52 rfl (lv_at hl 0 rfl) ?_
        obtain ⟨z27, h22, hf⟩ := bnv_open hf
        refine m_callVv (As := [.int (mI z 2)]) (rest := []) X hM hl mc_personTold (c_personTold h22) rfl (Nat.le_of_ble_eq_true rfl) (Nat.le_of_ble_eq_true rfl) rfl dX6_statementTold_53 (fun H locs hM => ?_)
        refine g_goto (tgt := 250) G dX6_statementTold_56 rfl ?_
        exact J250 _ _ _ hf hM ls (lv_sub hl [1] rfl)
    · have hf := it_neg c2 hf
      refine g_aload_n G dX6_statementTold_32 rfl (lv_at hl 1 rfl) ?_
      refine g_iload_n G dX6_statementTold_33 rfl (lv_at hl 0 rfl) ?_
      obtain ⟨z28, h23, hf⟩ := bnv_open hf
      refine m_callVv (As := [.int (mI z 2)]) (rest := []) X hM hl mc_factTold (c_factTold h23) rfl (Nat.le_of_ble_eq_true rfl) (Nat.le_of_ble_eq_true rfl) rfl dX6_statementTold_34 (fun H locs hM => ?_)
      refine g_goto (tgt := 250) G dX6_statementTold_37 rfl ?_
      exact J250 _ _ _ hf hM ls (lv_sub hl [1] rfl)
  · have hf := it_pos c1 hf
    refine g_aload_n G dX6_statementTold_14 rfl (lv_at hl 1 rfl) ?_
    refine g_iconst (v := 5) G dX6_statementTold_15 rfl ?_
    refine g_iload_n G dX6_statementTold_16 rfl (lv_at hl 0 rfl) ?_
    obtain ⟨z29, h24, hf⟩ := bnv_open hf
    refine m_callVv (As := [.int 5, .int (mI z 2)]) (rest := []) X hM hl mc_fail (c_fail h24) rfl (Nat.le_of_ble_eq_true rfl) (Nat.le_of_ble_eq_true rfl) rfl dX6_statementTold_17 (fun H locs hM => ?_)
    exact m_vret X hM hf dX6_statementTold_20
theorem mc_stands : mcV yX6_stands cX6_stands 2 (none) 0 389 := ⟨lw_V q2122 q2124 qs94 q157 q2125, ⟨rfl, by decide +kernel, by decide +kernel, by decide +kernel⟩, Nat.le_of_ble_eq_true rfl⟩
noncomputable def m_stands_L211 (k297 : MS → Option (MS)) (s211 : Int32 → MS → Option (MS)) (x1 : Int32) (z10 : MS) : Option (MS) :=
  if (mA z10 39 (Int32.toNatClampNeg 1)) ≤ x1 then
    k297 z10
  else
    ck (inb x1 (mN 45)) <|
    ck (inb (1 + (5 * x1)) (mN 53)) <|
    nm (wA z10 53 (Int32.toNatClampNeg (1 + (5 * x1))) (mA z10 45 (Int32.toNatClampNeg x1))) fun z11 =>
    ck (inb x1 (mN 43)) <|
    ck (inb ((1 + (5 * x1)) + 1) (mN 53)) <|
    nm (wA z11 53 (Int32.toNatClampNeg ((1 + (5 * x1)) + 1)) (mA z11 43 (Int32.toNatClampNeg x1))) fun z12 =>
    ck (inb x1 (mN 44)) <|
    ck (inb ((1 + (5 * x1)) + 2) (mN 53)) <|
    nm (wA z12 53 (Int32.toNatClampNeg ((1 + (5 * x1)) + 2)) (mA z12 44 (Int32.toNatClampNeg x1))) fun z13 =>
    ck (inb ((1 + (5 * x1)) + 3) (mN 53)) <|
    nm (wA z13 53 (Int32.toNatClampNeg ((1 + (5 * x1)) + 3)) (mA z13 46 (Int32.toNatClampNeg 1))) fun z14 =>
    s211 (x1 + 1) z14
noncomputable def m_stands_L189 (k209 : MS → Option (MS)) (s189 : Int32 → MS → Option (MS)) (x2 : Int32) (z15 : MS) : Option (MS) :=
  if 132 ≤ x2 then
    k209 z15
  else
    ck (inb x2 (mN 53)) <|
    nm (wA z15 53 (Int32.toNatClampNeg x2) 0) fun z16 =>
    s189 (x2 + 1) z16
noncomputable def m_stands_L157 (k187 : MS → Option (MS)) (s157 : Int32 → MS → Option (MS)) (x3 : Int32) (z17 : MS) : Option (MS) :=
  if (mI z17 50) ≤ x3 then
    k187 z17
  else
    ck (inb x3 (mN 49)) <|
    ck (inb (1600 + x3) (mN 49)) <|
    nm (wA z17 49 (Int32.toNatClampNeg (1600 + x3)) (mA z17 49 (Int32.toNatClampNeg x3))) fun z18 =>
    s157 (x3 + 1) z18
noncomputable def m_stands_L102 (k155 : MS → Option (MS)) (s102 : Int32 → MS → Option (MS)) (x4 : Int32) (z19 : MS) : Option (MS) :=
  if 3 ≤ x4 then
    k155 z19
  else
    ck (inb x4 (mN 46)) <|
    ck (inb (3 + x4) (mN 46)) <|
    nm (wA z19 46 (Int32.toNatClampNeg (3 + x4)) (mA z19 46 (Int32.toNatClampNeg x4))) fun z20 =>
    ck (inb x4 (mN 47)) <|
    ck (inb (3 + x4) (mN 47)) <|
    nm (wA z20 47 (Int32.toNatClampNeg (3 + x4)) (mA z20 47 (Int32.toNatClampNeg x4))) fun z21 =>
    ck (inb x4 (mN 48)) <|
    ck (inb (3 + x4) (mN 48)) <|
    nm (wA z21 48 (Int32.toNatClampNeg (3 + x4)) (mA z21 48 (Int32.toNatClampNeg x4))) fun z22 =>
    s102 (x4 + 1) z22
noncomputable def m_stands_L58 (k100 : MS → Option (MS)) (s58 : Int32 → MS → Option (MS)) (x5 : Int32) (z23 : MS) : Option (MS) :=
  if 8 ≤ x5 then
    k100 z23
  else
    ck (inb x5 (mN 41)) <|
    ck (inb (8 + x5) (mN 41)) <|
    nm (wA z23 41 (Int32.toNatClampNeg (8 + x5)) (mA z23 41 (Int32.toNatClampNeg x5))) fun z24 =>
    ck (inb x5 (mN 42)) <|
    ck (inb (8 + x5) (mN 42)) <|
    nm (wA z24 42 (Int32.toNatClampNeg (8 + x5)) (mA z24 42 (Int32.toNatClampNeg x5))) fun z25 =>
    s58 (x5 + 1) z25
noncomputable def m_stands_L29 (k56 : MS → Option (MS)) (s29 : Int32 → MS → Option (MS)) (x6 : Int32) (z26 : MS) : Option (MS) :=
  if 16 ≤ x6 then
    k56 z26
  else
    ck (inb x6 (mN 40)) <|
    ck (inb (16 + x6) (mN 40)) <|
    nm (wB z26 40 (Int32.toNatClampNeg (16 + x6)) (mB z26 40 (Int32.toNatClampNeg x6))) fun z27 =>
    s29 (x6 + 1) z27
noncomputable def m_stands_L2 (k27 : MS → Option (MS)) (s2 : Int32 → MS → Option (MS)) (x7 : Int32) (z28 : MS) : Option (MS) :=
  if 2 ≤ x7 then
    k27 z28
  else
    ck (inb x7 (mN 39)) <|
    ck (inb (2 + x7) (mN 39)) <|
    nm (wA z28 39 (Int32.toNatClampNeg (2 + x7)) (mA z28 39 (Int32.toNatClampNeg x7))) fun z29 =>
    s2 (x7 + 1) z29
noncomputable def m_stands (z : MS) : Option (MS) :=
  jn (fun (z1 : MS) =>
    jn (fun (z2 : MS) =>
      jn (fun (z3 : MS) =>
        jn (fun (z4 : MS) =>
          jn (fun (z5 : MS) =>
            jn (fun (z6 : MS) =>
              jn (fun (z7 : MS) =>
                nm (wI z7 65 0) fun z8 =>
                nm (wI z8 60 0) fun z9 =>
                some z9) fun k297 =>
              fx (m_stands_L211 k297) (fun _ _ => none) FU 0 z6) fun k209 =>
            fx (m_stands_L189 k209) (fun _ _ => none) FU 0 z5) fun k187 =>
          fx (m_stands_L157 k187) (fun _ _ => none) FU 0 z4) fun k155 =>
        fx (m_stands_L102 k155) (fun _ _ => none) FU 0 z3) fun k100 =>
      fx (m_stands_L58 k100) (fun _ _ => none) FU 0 z2) fun k56 =>
    fx (m_stands_L29 k56) (fun _ _ => none) FU 0 z1) fun k27 =>
  fx (m_stands_L2 k27) (fun _ _ => none) FU 0 z
set_option maxHeartbeats 1000000 in
theorem c_stands {l : Launch} {D : MD} {o : Nat} {ad : Nat → Nat} {z z' : MS} (hf : m_stands z = some z') : MMet l D o ad yX6_stands cX6_stands 2 (none) 1 [.ref o] z z' (none) := by
  unfold m_stands at hf
  refine m_head pnX6 rfl (Nat.le_of_ble_eq_true rfl) (fun m Z H0 ls X hM hl => ?_)
  have G := X.g
  have hl : lv_has ls 2 [(0, .ref o)] := hl
  refine g_iconst (v := 0) G dX6_stands_0 rfl ?_
  refine g_istore_n (lv' := [(1, .int 0), (0, .ref o)]) G dX6_stands_1 rfl hl (Nat.le_of_ble_eq_true rfl) rfl (fun ls hl => ?_)
  obtain ⟨k27, hk27, hf⟩ := jn_open hf
  have K27 : ∀ (z1 : MS) (H : Heap) (locs : List Loc), k27 z1 = some z' → MI D o ad H0 z1 H locs → ∀ ls : Array Slot, lv_has ls 2 [(0, .ref o)] → Z H locs 0 0 (F0 m 27 ls []) := by
    intro z1 H locs hf hM ls hl
    rw [hk27] at hf
    refine g_iconst (v := 0) G dX6_stands_27 rfl ?_
    refine g_istore_n (lv' := [(1, .int 0), (0, .ref o)]) G dX6_stands_28 rfl hl (Nat.le_of_ble_eq_true rfl) rfl (fun ls hl => ?_)
    obtain ⟨k56, hk56, hf⟩ := jn_open hf
    have K56 : ∀ (z2 : MS) (H : Heap) (locs : List Loc), k56 z2 = some z' → MI D o ad H0 z2 H locs → ∀ ls : Array Slot, lv_has ls 2 [(0, .ref o)] → Z H locs 0 0 (F0 m 56 ls []) := by
      intro z2 H locs hf hM ls hl
      rw [hk56] at hf
      refine g_iconst (v := 0) G dX6_stands_56 rfl ?_
      refine g_istore_n (lv' := [(1, .int 0), (0, .ref o)]) G dX6_stands_57 rfl hl (Nat.le_of_ble_eq_true rfl) rfl (fun ls hl => ?_)
      obtain ⟨k100, hk100, hf⟩ := jn_open hf
      have K100 : ∀ (z3 : MS) (H : Heap) (locs : List Loc), k100 z3 = some z' → MI D o ad H0 z3 H locs → ∀ ls : Array Slot, lv_has ls 2 [(0, .ref o)] → Z H locs 0 0 (F0 m 100 ls []) := by
        intro z3 H locs hf hM ls hl
        rw [hk100] at hf
        refine g_iconst (v := 0) G dX6_stands_100 rfl ?_
        refine g_istore_n (lv' := [(1, .int 0), (0, .ref o)]) G dX6_stands_101 rfl hl (Nat.le_of_ble_eq_true rfl) rfl (fun ls hl => ?_)
        obtain ⟨k155, hk155, hf⟩ := jn_open hf
        have K155 : ∀ (z4 : MS) (H : Heap) (locs : List Loc), k155 z4 = some z' → MI D o ad H0 z4 H locs → ∀ ls : Array Slot, lv_has ls 2 [(0, .ref o)] → Z H locs 0 0 (F0 m 155 ls []) := by
          intro z4 H locs hf hM ls hl
          rw [hk155] at hf
          refine g_iconst (v := 0) G dX6_stands_155 rfl ?_
          refine g_istore_n (lv' := [(1, .int 0), (0, .ref o)]) G dX6_stands_156 rfl hl (Nat.le_of_ble_eq_true rfl) rfl (fun ls hl => ?_)
          obtain ⟨k187, hk187, hf⟩ := jn_open hf
          have K187 : ∀ (z5 : MS) (H : Heap) (locs : List Loc), k187 z5 = some z' → MI D o ad H0 z5 H locs → ∀ ls : Array Slot, lv_has ls 2 [(0, .ref o)] → Z H locs 0 0 (F0 m 187 ls []) := by
            intro z5 H locs hf hM ls hl
            rw [hk187] at hf
            refine g_iconst (v := 0) G dX6_stands_187 rfl ?_
            refine g_istore_n (lv' := [(1, .int 0), (0, .ref o)]) G dX6_stands_188 rfl hl (Nat.le_of_ble_eq_true rfl) rfl (fun ls hl => ?_)
            obtain ⟨k209, hk209, hf⟩ := jn_open hf
            have K209 : ∀ (z6 : MS) (H : Heap) (locs : List Loc), k209 z6 = some z' → MI D o ad H0 z6 H locs → ∀ ls : Array Slot, lv_has ls 2 [(0, .ref o)] → Z H locs 0 0 (F0 m 209 ls []) := by
              intro z6 H locs hf hM ls hl
              rw [hk209] at hf
              refine g_iconst (v := 0) G dX6_stands_209 rfl ?_
              refine g_istore_n (lv' := [(1, .int 0), (0, .ref o)]) G dX6_stands_210 rfl hl (Nat.le_of_ble_eq_true rfl) rfl (fun ls hl => ?_)
              obtain ⟨k297, hk297, hf⟩ := jn_open hf
              have K297 : ∀ (z7 : MS) (H : Heap) (locs : List Loc), k297 z7 = some z' → MI D o ad H0 z7 H locs → ∀ ls : Array Slot, lv_has ls 2 [(0, .ref o)] → Z H locs 0 0 (F0 m 297 ls []) := by
                intro z7 H locs hf hM ls hl
                rw [hk297] at hf
                refine g_aload_n G dX6_stands_297 rfl (lv_at hl 0 rfl) ?_
                refine g_iconst (v := 0) G dX6_stands_298 rfl ?_
                obtain ⟨z8, hz8, hf⟩ := nm_open hf
                refine mp_i X hM mf_65 hz8 dX6_stands_299 (fun H locs hM => ?_)
                refine g_aload_n G dX6_stands_302 rfl (lv_at hl 0 rfl) ?_
                refine g_iconst (v := 0) G dX6_stands_303 rfl ?_
                obtain ⟨z9, hz9, hf⟩ := nm_open hf
                refine mp_i X hM mf_60 hz9 dX6_stands_304 (fun H locs hM => ?_)
                exact m_vret X hM hf dX6_stands_307
              have L211 : ∀ (n : Nat) (x1 : Int32) (z10 : MS) (H : Heap) (locs : List Loc), fx (m_stands_L211 k297) (fun _ _ => none) n x1 z10 = some z' → MI D o ad H0 z10 H locs → ∀ ls : Array Slot, lv_has ls 2 [(0, .ref o), (1, .int x1)] → Z H locs 0 0 (F0 m 211 ls []) := by
                intro n
                induction n with
                | zero => intro x1 z10 H locs hf; exact absurd hf (by intro q; cases q)
                | succ n ih211 =>
                  intro x1 z10 H locs hf hM ls hl
                  rw [fx_s] at hf
                  generalize fx (m_stands_L211 k297) (fun _ _ => none) n = s211 at hf ih211
                  unfold m_stands_L211 at hf
                  refine g_iload_n G dX6_stands_211 rfl (lv_at hl 1 rfl) ?_
                  refine g_aload_n G dX6_stands_212 rfl (lv_at hl 0 rfl) ?_
                  refine mg_a X hM mf_39 dX6_stands_213 ?_
                  refine g_iconst (v := 1) G dX6_stands_216 rfl ?_
                  refine m_iald X hM (mIs.of mf_39) (by decide) dX6_stands_217 ?_
                  refine g_icmp_ge (tgt := 297) G dX6_stands_218 rfl (fun c1 => ?_) (fun c1 => ?_)
                  · have hf := it_pos c1 hf
                    exact K297 _ _ _ hf hM ls (lv_sub hl [0] rfl)
                  · have hf := it_neg c1 hf
                    refine g_aload_n G dX6_stands_221 rfl (lv_at hl 0 rfl) ?_
                    refine mg_a X hM mf_53 dX6_stands_222 ?_
                    refine g_iconst (v := 1) G dX6_stands_225 rfl ?_
                    refine g_iconst (v := 5) G dX6_stands_226 rfl ?_
                    refine g_iload_n G dX6_stands_227 rfl (lv_at hl 1 rfl) ?_
                    refine g_imul G dX6_stands_228 ?_
                    refine g_iadd G dX6_stands_229 ?_
                    refine g_aload_n G dX6_stands_230 rfl (lv_at hl 0 rfl) ?_
                    refine mg_a X hM mf_45 dX6_stands_231 ?_
                    refine g_iload_n G dX6_stands_234 rfl (lv_at hl 1 rfl) ?_
                    obtain ⟨b1, hf⟩ := ck_open hf
                    refine m_iald X hM (mIs.of mf_45) b1 dX6_stands_235 ?_
                    obtain ⟨b2, hf⟩ := ck_open hf
                    obtain ⟨z11, hz11, hf⟩ := nm_open hf
                    refine m_iast X hM (mIs.of mf_53) b2 hz11 dX6_stands_236 (fun H locs hM => ?_)
                    refine g_aload_n G dX6_stands_237 rfl (lv_at hl 0 rfl) ?_
                    refine mg_a X hM mf_53 dX6_stands_238 ?_
                    refine g_iconst (v := 1) G dX6_stands_241 rfl ?_
                    refine g_iconst (v := 5) G dX6_stands_242 rfl ?_
                    refine g_iload_n G dX6_stands_243 rfl (lv_at hl 1 rfl) ?_
                    refine g_imul G dX6_stands_244 ?_
                    refine g_iadd G dX6_stands_245 ?_
                    refine g_iconst (v := 1) G dX6_stands_246 rfl ?_
                    refine g_iadd G dX6_stands_247 ?_
                    refine g_aload_n G dX6_stands_248 rfl (lv_at hl 0 rfl) ?_
                    refine mg_a X hM mf_43 dX6_stands_249 ?_
                    refine g_iload_n G dX6_stands_252 rfl (lv_at hl 1 rfl) ?_
                    obtain ⟨b3, hf⟩ := ck_open hf
                    refine m_iald X hM (mIs.of mf_43) b3 dX6_stands_253 ?_
                    obtain ⟨b4, hf⟩ := ck_open hf
                    obtain ⟨z12, hz12, hf⟩ := nm_open hf
                    refine m_iast X hM (mIs.of mf_53) b4 hz12 dX6_stands_254 (fun H locs hM => ?_)
                    refine g_aload_n G dX6_stands_255 rfl (lv_at hl 0 rfl) ?_
                    refine mg_a X hM mf_53 dX6_stands_256 ?_
                    refine g_iconst (v := 1) G dX6_stands_259 rfl ?_
                    refine g_iconst (v := 5) G dX6_stands_260 rfl ?_
                    refine g_iload_n G dX6_stands_261 rfl (lv_at hl 1 rfl) ?_
                    refine g_imul G dX6_stands_262 ?_
                    refine g_iadd G dX6_stands_263 ?_
                    refine g_iconst (v := 2) G dX6_stands_264 rfl ?_
                    refine g_iadd G dX6_stands_265 ?_
                    refine g_aload_n G dX6_stands_266 rfl (lv_at hl 0 rfl) ?_
                    refine mg_a X hM mf_44 dX6_stands_267 ?_
                    refine g_iload_n G dX6_stands_270 rfl (lv_at hl 1 rfl) ?_
                    obtain ⟨b5, hf⟩ := ck_open hf
                    refine m_iald X hM (mIs.of mf_44) b5 dX6_stands_271 ?_
                    obtain ⟨b6, hf⟩ := ck_open hf
                    obtain ⟨z13, hz13, hf⟩ := nm_open hf
                    refine m_iast X hM (mIs.of mf_53) b6 hz13 dX6_stands_272 (fun H locs hM => ?_)
                    refine g_aload_n G dX6_stands_273 rfl (lv_at hl 0 rfl) ?_
                    refine mg_a X hM mf_53 dX6_stands_274 ?_
                    refine g_iconst (v := 1) G dX6_stands_277 rfl ?_
                    refine g_iconst (v := 5) G dX6_stands_278 rfl ?_
                    refine g_iload_n G dX6_stands_279 rfl (lv_at hl 1 rfl) ?_
                    refine g_imul G dX6_stands_280 ?_
                    refine g_iadd G dX6_stands_281 ?_
                    refine g_iconst (v := 3) G dX6_stands_282 rfl ?_
                    refine g_iadd G dX6_stands_283 ?_
                    refine g_aload_n G dX6_stands_284 rfl (lv_at hl 0 rfl) ?_
                    refine mg_a X hM mf_46 dX6_stands_285 ?_
                    refine g_iconst (v := 1) G dX6_stands_288 rfl ?_
                    refine m_iald X hM (mIs.of mf_46) (by decide) dX6_stands_289 ?_
                    obtain ⟨b7, hf⟩ := ck_open hf
                    obtain ⟨z14, hz14, hf⟩ := nm_open hf
                    refine m_iast X hM (mIs.of mf_53) b7 hz14 dX6_stands_290 (fun H locs hM => ?_)
                    refine g_iinc (v := x1 + 1) (lv' := [(1, .int (x1 + 1)), (0, .ref o)]) G dX6_stands_291 hl (k := 1) rfl rfl (Nat.le_of_ble_eq_true rfl) rfl (fun ls hl => ?_)
                    refine g_goto (tgt := 211) G dX6_stands_294 rfl ?_
                    exact ih211 _ _ _ _ hf hM ls (lv_sub hl [1, 0] rfl)
              exact L211 FU _ _ _ _ hf hM ls (lv_sub hl [1, 0] rfl)
            have L189 : ∀ (n : Nat) (x2 : Int32) (z15 : MS) (H : Heap) (locs : List Loc), fx (m_stands_L189 k209) (fun _ _ => none) n x2 z15 = some z' → MI D o ad H0 z15 H locs → ∀ ls : Array Slot, lv_has ls 2 [(0, .ref o), (1, .int x2)] → Z H locs 0 0 (F0 m 189 ls []) := by
              intro n
              induction n with
              | zero => intro x2 z15 H locs hf; exact absurd hf (by intro q; cases q)
              | succ n ih189 =>
                intro x2 z15 H locs hf hM ls hl
                rw [fx_s] at hf
                generalize fx (m_stands_L189 k209) (fun _ _ => none) n = s189 at hf ih189
                unfold m_stands_L189 at hf
                refine g_iload_n G dX6_stands_189 rfl (lv_at hl 1 rfl) ?_
                refine g_sipush (v := 132) G dX6_stands_190 rfl ?_
                refine g_icmp_ge (tgt := 209) G dX6_stands_193 rfl (fun c2 => ?_) (fun c2 => ?_)
                · have hf := it_pos c2 hf
                  exact K209 _ _ _ hf hM ls (lv_sub hl [0] rfl)
                · have hf := it_neg c2 hf
                  refine g_aload_n G dX6_stands_196 rfl (lv_at hl 0 rfl) ?_
                  refine mg_a X hM mf_53 dX6_stands_197 ?_
                  refine g_iload_n G dX6_stands_200 rfl (lv_at hl 1 rfl) ?_
                  refine g_iconst (v := 0) G dX6_stands_201 rfl ?_
                  obtain ⟨b8, hf⟩ := ck_open hf
                  obtain ⟨z16, hz16, hf⟩ := nm_open hf
                  refine m_iast X hM (mIs.of mf_53) b8 hz16 dX6_stands_202 (fun H locs hM => ?_)
                  refine g_iinc (v := x2 + 1) (lv' := [(1, .int (x2 + 1)), (0, .ref o)]) G dX6_stands_203 hl (k := 1) rfl rfl (Nat.le_of_ble_eq_true rfl) rfl (fun ls hl => ?_)
                  refine g_goto (tgt := 189) G dX6_stands_206 rfl ?_
                  exact ih189 _ _ _ _ hf hM ls (lv_sub hl [1, 0] rfl)
            exact L189 FU _ _ _ _ hf hM ls (lv_sub hl [1, 0] rfl)
          have L157 : ∀ (n : Nat) (x3 : Int32) (z17 : MS) (H : Heap) (locs : List Loc), fx (m_stands_L157 k187) (fun _ _ => none) n x3 z17 = some z' → MI D o ad H0 z17 H locs → ∀ ls : Array Slot, lv_has ls 2 [(0, .ref o), (1, .int x3)] → Z H locs 0 0 (F0 m 157 ls []) := by
            intro n
            induction n with
            | zero => intro x3 z17 H locs hf; exact absurd hf (by intro q; cases q)
            | succ n ih157 =>
              intro x3 z17 H locs hf hM ls hl
              rw [fx_s] at hf
              generalize fx (m_stands_L157 k187) (fun _ _ => none) n = s157 at hf ih157
              unfold m_stands_L157 at hf
              refine g_iload_n G dX6_stands_157 rfl (lv_at hl 1 rfl) ?_
              refine g_aload_n G dX6_stands_158 rfl (lv_at hl 0 rfl) ?_
              refine mg_i X hM mf_50 dX6_stands_159 ?_
              refine g_icmp_ge (tgt := 187) G dX6_stands_162 rfl (fun c3 => ?_) (fun c3 => ?_)
              · have hf := it_pos c3 hf
                exact K187 _ _ _ hf hM ls (lv_sub hl [0] rfl)
              · have hf := it_neg c3 hf
                refine g_aload_n G dX6_stands_165 rfl (lv_at hl 0 rfl) ?_
                refine mg_a X hM mf_49 dX6_stands_166 ?_
                refine g_sipush (v := 1600) G dX6_stands_169 rfl ?_
                refine g_iload_n G dX6_stands_172 rfl (lv_at hl 1 rfl) ?_
                refine g_iadd G dX6_stands_173 ?_
                refine g_aload_n G dX6_stands_174 rfl (lv_at hl 0 rfl) ?_
                refine mg_a X hM mf_49 dX6_stands_175 ?_
                refine g_iload_n G dX6_stands_178 rfl (lv_at hl 1 rfl) ?_
                obtain ⟨b9, hf⟩ := ck_open hf
                refine m_iald X hM (mIs.of mf_49) b9 dX6_stands_179 ?_
                obtain ⟨b10, hf⟩ := ck_open hf
                obtain ⟨z18, hz18, hf⟩ := nm_open hf
                refine m_iast X hM (mIs.of mf_49) b10 hz18 dX6_stands_180 (fun H locs hM => ?_)
                refine g_iinc (v := x3 + 1) (lv' := [(1, .int (x3 + 1)), (0, .ref o)]) G dX6_stands_181 hl (k := 1) rfl rfl (Nat.le_of_ble_eq_true rfl) rfl (fun ls hl => ?_)
                refine g_goto (tgt := 157) G dX6_stands_184 rfl ?_
                exact ih157 _ _ _ _ hf hM ls (lv_sub hl [1, 0] rfl)
          exact L157 FU _ _ _ _ hf hM ls (lv_sub hl [1, 0] rfl)
        have L102 : ∀ (n : Nat) (x4 : Int32) (z19 : MS) (H : Heap) (locs : List Loc), fx (m_stands_L102 k155) (fun _ _ => none) n x4 z19 = some z' → MI D o ad H0 z19 H locs → ∀ ls : Array Slot, lv_has ls 2 [(0, .ref o), (1, .int x4)] → Z H locs 0 0 (F0 m 102 ls []) := by
          intro n
          induction n with
          | zero => intro x4 z19 H locs hf; exact absurd hf (by intro q; cases q)
          | succ n ih102 =>
            intro x4 z19 H locs hf hM ls hl
            rw [fx_s] at hf
            generalize fx (m_stands_L102 k155) (fun _ _ => none) n = s102 at hf ih102
            unfold m_stands_L102 at hf
            refine g_iload_n G dX6_stands_102 rfl (lv_at hl 1 rfl) ?_
            refine g_iconst (v := 3) G dX6_stands_103 rfl ?_
            refine g_icmp_ge (tgt := 155) G dX6_stands_104 rfl (fun c4 => ?_) (fun c4 => ?_)
            · have hf := it_pos c4 hf
              exact K155 _ _ _ hf hM ls (lv_sub hl [0] rfl)
            · have hf := it_neg c4 hf
              refine g_aload_n G dX6_stands_107 rfl (lv_at hl 0 rfl) ?_
              refine mg_a X hM mf_46 dX6_stands_108 ?_
              refine g_iconst (v := 3) G dX6_stands_111 rfl ?_
              refine g_iload_n G dX6_stands_112 rfl (lv_at hl 1 rfl) ?_
              refine g_iadd G dX6_stands_113 ?_
              refine g_aload_n G dX6_stands_114 rfl (lv_at hl 0 rfl) ?_
              refine mg_a X hM mf_46 dX6_stands_115 ?_
              refine g_iload_n G dX6_stands_118 rfl (lv_at hl 1 rfl) ?_
              obtain ⟨b11, hf⟩ := ck_open hf
              refine m_iald X hM (mIs.of mf_46) b11 dX6_stands_119 ?_
              obtain ⟨b12, hf⟩ := ck_open hf
              obtain ⟨z20, hz20, hf⟩ := nm_open hf
              refine m_iast X hM (mIs.of mf_46) b12 hz20 dX6_stands_120 (fun H locs hM => ?_)
              refine g_aload_n G dX6_stands_121 rfl (lv_at hl 0 rfl) ?_
              refine mg_a X hM mf_47 dX6_stands_122 ?_
              refine g_iconst (v := 3) G dX6_stands_125 rfl ?_
              refine g_iload_n G dX6_stands_126 rfl (lv_at hl 1 rfl) ?_
              refine g_iadd G dX6_stands_127 ?_
              refine g_aload_n G dX6_stands_128 rfl (lv_at hl 0 rfl) ?_
              refine mg_a X hM mf_47 dX6_stands_129 ?_
              refine g_iload_n G dX6_stands_132 rfl (lv_at hl 1 rfl) ?_
              obtain ⟨b13, hf⟩ := ck_open hf
              refine m_iald X hM (mIs.of mf_47) b13 dX6_stands_133 ?_
              obtain ⟨b14, hf⟩ := ck_open hf
              obtain ⟨z21, hz21, hf⟩ := nm_open hf
              refine m_iast X hM (mIs.of mf_47) b14 hz21 dX6_stands_134 (fun H locs hM => ?_)
              refine g_aload_n G dX6_stands_135 rfl (lv_at hl 0 rfl) ?_
              refine mg_a X hM mf_48 dX6_stands_136 ?_
              refine g_iconst (v := 3) G dX6_stands_139 rfl ?_
              refine g_iload_n G dX6_stands_140 rfl (lv_at hl 1 rfl) ?_
              refine g_iadd G dX6_stands_141 ?_
              refine g_aload_n G dX6_stands_142 rfl (lv_at hl 0 rfl) ?_
              refine mg_a X hM mf_48 dX6_stands_143 ?_
              refine g_iload_n G dX6_stands_146 rfl (lv_at hl 1 rfl) ?_
              obtain ⟨b15, hf⟩ := ck_open hf
              refine m_iald X hM (mIs.of mf_48) b15 dX6_stands_147 ?_
              obtain ⟨b16, hf⟩ := ck_open hf
              obtain ⟨z22, hz22, hf⟩ := nm_open hf
              refine m_iast X hM (mIs.of mf_48) b16 hz22 dX6_stands_148 (fun H locs hM => ?_)
              refine g_iinc (v := x4 + 1) (lv' := [(1, .int (x4 + 1)), (0, .ref o)]) G dX6_stands_149 hl (k := 1) rfl rfl (Nat.le_of_ble_eq_true rfl) rfl (fun ls hl => ?_)
              refine g_goto (tgt := 102) G dX6_stands_152 rfl ?_
              exact ih102 _ _ _ _ hf hM ls (lv_sub hl [1, 0] rfl)
        exact L102 FU _ _ _ _ hf hM ls (lv_sub hl [1, 0] rfl)
      have L58 : ∀ (n : Nat) (x5 : Int32) (z23 : MS) (H : Heap) (locs : List Loc), fx (m_stands_L58 k100) (fun _ _ => none) n x5 z23 = some z' → MI D o ad H0 z23 H locs → ∀ ls : Array Slot, lv_has ls 2 [(0, .ref o), (1, .int x5)] → Z H locs 0 0 (F0 m 58 ls []) := by
        intro n
        induction n with
        | zero => intro x5 z23 H locs hf; exact absurd hf (by intro q; cases q)
        | succ n ih58 =>
          intro x5 z23 H locs hf hM ls hl
          rw [fx_s] at hf
          generalize fx (m_stands_L58 k100) (fun _ _ => none) n = s58 at hf ih58
          unfold m_stands_L58 at hf
          refine g_iload_n G dX6_stands_58 rfl (lv_at hl 1 rfl) ?_
          refine g_bipush (v := 8) G dX6_stands_59 rfl ?_
          refine g_icmp_ge (tgt := 100) G dX6_stands_61 rfl (fun c5 => ?_) (fun c5 => ?_)
          · have hf := it_pos c5 hf
            exact K100 _ _ _ hf hM ls (lv_sub hl [0] rfl)
          · have hf := it_neg c5 hf
            refine g_aload_n G dX6_stands_64 rfl (lv_at hl 0 rfl) ?_
            refine mg_a X hM mf_41 dX6_stands_65 ?_
            refine g_bipush (v := 8) G dX6_stands_68 rfl ?_
            refine g_iload_n G dX6_stands_70 rfl (lv_at hl 1 rfl) ?_
            refine g_iadd G dX6_stands_71 ?_
            refine g_aload_n G dX6_stands_72 rfl (lv_at hl 0 rfl) ?_
            refine mg_a X hM mf_41 dX6_stands_73 ?_
            refine g_iload_n G dX6_stands_76 rfl (lv_at hl 1 rfl) ?_
            obtain ⟨b17, hf⟩ := ck_open hf
            refine m_iald X hM (mIs.of mf_41) b17 dX6_stands_77 ?_
            obtain ⟨b18, hf⟩ := ck_open hf
            obtain ⟨z24, hz24, hf⟩ := nm_open hf
            refine m_iast X hM (mIs.of mf_41) b18 hz24 dX6_stands_78 (fun H locs hM => ?_)
            refine g_aload_n G dX6_stands_79 rfl (lv_at hl 0 rfl) ?_
            refine mg_a X hM mf_42 dX6_stands_80 ?_
            refine g_bipush (v := 8) G dX6_stands_83 rfl ?_
            refine g_iload_n G dX6_stands_85 rfl (lv_at hl 1 rfl) ?_
            refine g_iadd G dX6_stands_86 ?_
            refine g_aload_n G dX6_stands_87 rfl (lv_at hl 0 rfl) ?_
            refine mg_a X hM mf_42 dX6_stands_88 ?_
            refine g_iload_n G dX6_stands_91 rfl (lv_at hl 1 rfl) ?_
            obtain ⟨b19, hf⟩ := ck_open hf
            refine m_iald X hM (mIs.of mf_42) b19 dX6_stands_92 ?_
            obtain ⟨b20, hf⟩ := ck_open hf
            obtain ⟨z25, hz25, hf⟩ := nm_open hf
            refine m_iast X hM (mIs.of mf_42) b20 hz25 dX6_stands_93 (fun H locs hM => ?_)
            refine g_iinc (v := x5 + 1) (lv' := [(1, .int (x5 + 1)), (0, .ref o)]) G dX6_stands_94 hl (k := 1) rfl rfl (Nat.le_of_ble_eq_true rfl) rfl (fun ls hl => ?_)
            refine g_goto (tgt := 58) G dX6_stands_97 rfl ?_
            exact ih58 _ _ _ _ hf hM ls (lv_sub hl [1, 0] rfl)
      exact L58 FU _ _ _ _ hf hM ls (lv_sub hl [1, 0] rfl)
    have L29 : ∀ (n : Nat) (x6 : Int32) (z26 : MS) (H : Heap) (locs : List Loc), fx (m_stands_L29 k56) (fun _ _ => none) n x6 z26 = some z' → MI D o ad H0 z26 H locs → ∀ ls : Array Slot, lv_has ls 2 [(0, .ref o), (1, .int x6)] → Z H locs 0 0 (F0 m 29 ls []) := by
      intro n
      induction n with
      | zero => intro x6 z26 H locs hf; exact absurd hf (by intro q; cases q)
      | succ n ih29 =>
        intro x6 z26 H locs hf hM ls hl
        rw [fx_s] at hf
        generalize fx (m_stands_L29 k56) (fun _ _ => none) n = s29 at hf ih29
        unfold m_stands_L29 at hf
        refine g_iload_n G dX6_stands_29 rfl (lv_at hl 1 rfl) ?_
        refine g_bipush (v := 16) G dX6_stands_30 rfl ?_
        refine g_icmp_ge (tgt := 56) G dX6_stands_32 rfl (fun c6 => ?_) (fun c6 => ?_)
        · have hf := it_pos c6 hf
          exact K56 _ _ _ hf hM ls (lv_sub hl [0] rfl)
        · have hf := it_neg c6 hf
          refine g_aload_n G dX6_stands_35 rfl (lv_at hl 0 rfl) ?_
          refine mg_a X hM mf_40 dX6_stands_36 ?_
          refine g_bipush (v := 16) G dX6_stands_39 rfl ?_
          refine g_iload_n G dX6_stands_41 rfl (lv_at hl 1 rfl) ?_
          refine g_iadd G dX6_stands_42 ?_
          refine g_aload_n G dX6_stands_43 rfl (lv_at hl 0 rfl) ?_
          refine mg_a X hM mf_40 dX6_stands_44 ?_
          refine g_iload_n G dX6_stands_47 rfl (lv_at hl 1 rfl) ?_
          obtain ⟨b21, hf⟩ := ck_open hf
          refine m_lald X hM (mIs.of mf_40) b21 dX6_stands_48 ?_
          obtain ⟨b22, hf⟩ := ck_open hf
          obtain ⟨z27, hz27, hf⟩ := nm_open hf
          refine m_last X hM (mIs.of mf_40) b22 hz27 dX6_stands_49 (fun H locs hM => ?_)
          refine g_iinc (v := x6 + 1) (lv' := [(1, .int (x6 + 1)), (0, .ref o)]) G dX6_stands_50 hl (k := 1) rfl rfl (Nat.le_of_ble_eq_true rfl) rfl (fun ls hl => ?_)
          refine g_goto (tgt := 29) G dX6_stands_53 rfl ?_
          exact ih29 _ _ _ _ hf hM ls (lv_sub hl [1, 0] rfl)
    exact L29 FU _ _ _ _ hf hM ls (lv_sub hl [1, 0] rfl)
  have L2 : ∀ (n : Nat) (x7 : Int32) (z28 : MS) (H : Heap) (locs : List Loc), fx (m_stands_L2 k27) (fun _ _ => none) n x7 z28 = some z' → MI D o ad H0 z28 H locs → ∀ ls : Array Slot, lv_has ls 2 [(0, .ref o), (1, .int x7)] → Z H locs 0 0 (F0 m 2 ls []) := by
    intro n
    induction n with
    | zero => intro x7 z28 H locs hf; exact absurd hf (by intro q; cases q)
    | succ n ih2 =>
      intro x7 z28 H locs hf hM ls hl
      rw [fx_s] at hf
      generalize fx (m_stands_L2 k27) (fun _ _ => none) n = s2 at hf ih2
      unfold m_stands_L2 at hf
      refine g_iload_n G dX6_stands_2 rfl (lv_at hl 1 rfl) ?_
      refine g_iconst (v := 2) G dX6_stands_3 rfl ?_
      refine g_icmp_ge (tgt := 27) G dX6_stands_4 rfl (fun c7 => ?_) (fun c7 => ?_)
      · have hf := it_pos c7 hf
        exact K27 _ _ _ hf hM ls (lv_sub hl [0] rfl)
      · have hf := it_neg c7 hf
        refine g_aload_n G dX6_stands_7 rfl (lv_at hl 0 rfl) ?_
        refine mg_a X hM mf_39 dX6_stands_8 ?_
        refine g_iconst (v := 2) G dX6_stands_11 rfl ?_
        refine g_iload_n G dX6_stands_12 rfl (lv_at hl 1 rfl) ?_
        refine g_iadd G dX6_stands_13 ?_
        refine g_aload_n G dX6_stands_14 rfl (lv_at hl 0 rfl) ?_
        refine mg_a X hM mf_39 dX6_stands_15 ?_
        refine g_iload_n G dX6_stands_18 rfl (lv_at hl 1 rfl) ?_
        obtain ⟨b23, hf⟩ := ck_open hf
        refine m_iald X hM (mIs.of mf_39) b23 dX6_stands_19 ?_
        obtain ⟨b24, hf⟩ := ck_open hf
        obtain ⟨z29, hz29, hf⟩ := nm_open hf
        refine m_iast X hM (mIs.of mf_39) b24 hz29 dX6_stands_20 (fun H locs hM => ?_)
        refine g_iinc (v := x7 + 1) (lv' := [(1, .int (x7 + 1)), (0, .ref o)]) G dX6_stands_21 hl (k := 1) rfl rfl (Nat.le_of_ble_eq_true rfl) rfl (fun ls hl => ?_)
        refine g_goto (tgt := 2) G dX6_stands_24 rfl ?_
        exact ih2 _ _ _ _ hf hM ls (lv_sub hl [1, 0] rfl)
  exact L2 FU _ _ _ _ hf hM ls (lv_sub hl [1, 0] rfl)
noncomputable def m_school_L134 (k156 : MS → Option (Int32 × MS)) (s134 : MS → Option (Int32 × MS)) (z21 : MS) : Option (Int32 × MS) :=
  if (mI z21 5) = 0 then
    bnd (m_look z21) fun r1 z22 =>
    if r1 = (-1) then
      k156 z22
    else
      bnv (m_statementTold z22) fun z23 =>
      s134 z23
  else
    k156 z21
noncomputable def m_school_L94 (k112 : MS → Option (Int32 × MS)) (s94 : Int32 → MS → Option (Int32 × MS)) (x1 : Int32) (z24 : MS) : Option (Int32 × MS) :=
  if 3 ≤ x1 then
    k112 z24
  else
    ck (inb x1 (mN 47)) <|
    nm (wA z24 47 (Int32.toNatClampNeg x1) (-1)) fun z25 =>
    s94 (x1 + 1) z25
noncomputable def m_school_L59 (k92 : MS → Option (Int32 × MS)) (s59 : Int32 → MS → Option (Int32 × MS)) (x2 : Int32) (z26 : MS) : Option (Int32 × MS) :=
  if 8 ≤ x2 then
    k92 z26
  else
    ck (inb x2 (mN 43)) <|
    nm (wA z26 43 (Int32.toNatClampNeg x2) 0) fun z27 =>
    ck (inb x2 (mN 44)) <|
    nm (wA z27 44 (Int32.toNatClampNeg x2) 0) fun z28 =>
    ck (inb x2 (mN 45)) <|
    nm (wA z28 45 (Int32.toNatClampNeg x2) (-1)) fun z29 =>
    s59 (x2 + 1) z29
noncomputable def m_school (z : MS) : Option (Int32 × MS) :=
  nm (wI z 3 (mI z 1)) fun z1 =>
  nm (wI z1 1 0) fun z2 =>
  nm (wI z2 2 0) fun z3 =>
  nm (wI z3 4 (-1)) fun z4 =>
  nm (wI z4 5 0) fun z5 =>
  nm (wI z5 6 (-1)) fun z6 =>
  nm (wI z6 51 0) fun z7 =>
  nm (wI z7 50 0) fun z8 =>
  nm (wA z8 39 (Int32.toNatClampNeg 0) 0) fun z9 =>
  nm (wA z9 39 (Int32.toNatClampNeg 1) 0) fun z10 =>
  jn (fun (z11 : MS) =>
    jn (fun (z12 : MS) =>
      nm (wA z12 46 (Int32.toNatClampNeg 0) 10) fun z13 =>
      nm (wA z13 46 (Int32.toNatClampNeg 1) 3) fun z14 =>
      nm (wA z14 46 (Int32.toNatClampNeg 2) 0) fun z15 =>
      jn (fun (z16 : MS) =>
        nm (wI z16 7 (mI z16 5)) fun z17 =>
        nm (wI z17 8 (mI z17 6)) fun z18 =>
        if (mI z18 5) = 0 then
          bnv (m_stands z18) fun z19 =>
          some ((mI z19 51), z19)
        else
          nm (wA z18 9 (Int32.toNatClampNeg 1) ((mA z18 9 (Int32.toNatClampNeg 1)) + 1)) fun z20 =>
          some ((-1), z20)) fun k156 =>
      fx (m_school_L134 k156) (fun _ => none) FU  z15) fun k112 =>
    fx (m_school_L94 k112) (fun _ _ => none) FU 0 z11) fun k92 =>
  fx (m_school_L59 k92) (fun _ _ => none) FU 0 z10
set_option maxHeartbeats 1000000 in
theorem c_school {l : Launch} {D : MD} {o : Nat} {ad : Nat → Nat} {z z' : MS} {r : Int32} (hf : m_school z = some (r, z')) : MMet l D o ad yX6_school cX6_school 2 (some .int) 12 [.ref o] z z' (some (.int r)) := by
  unfold m_school at hf
  refine m_head pnX6 rfl (Nat.le_of_ble_eq_true rfl) (fun m Z H0 ls X hM hl => ?_)
  have G := X.g
  have hl : lv_has ls 2 [(0, .ref o)] := hl
  refine g_aload_n G dX6_school_0 rfl (lv_at hl 0 rfl) ?_
  refine g_aload_n G dX6_school_1 rfl (lv_at hl 0 rfl) ?_
  refine mg_i X hM mf_1 dX6_school_2 ?_
  obtain ⟨z1, hz1, hf⟩ := nm_open hf
  refine mp_i X hM mf_3 hz1 dX6_school_5 (fun H locs hM => ?_)
  refine g_aload_n G dX6_school_8 rfl (lv_at hl 0 rfl) ?_
  refine g_iconst (v := 0) G dX6_school_9 rfl ?_
  obtain ⟨z2, hz2, hf⟩ := nm_open hf
  refine mp_i X hM mf_1 hz2 dX6_school_10 (fun H locs hM => ?_)
  refine g_aload_n G dX6_school_13 rfl (lv_at hl 0 rfl) ?_
  refine g_iconst (v := 0) G dX6_school_14 rfl ?_
  obtain ⟨z3, hz3, hf⟩ := nm_open hf
  refine mp_i X hM mf_2 hz3 dX6_school_15 (fun H locs hM => ?_)
  refine g_aload_n G dX6_school_18 rfl (lv_at hl 0 rfl) ?_
  refine g_iconst (v := (-1)) G dX6_school_19 rfl ?_
  obtain ⟨z4, hz4, hf⟩ := nm_open hf
  refine mp_i X hM mf_4 hz4 dX6_school_20 (fun H locs hM => ?_)
  refine g_aload_n G dX6_school_23 rfl (lv_at hl 0 rfl) ?_
  refine g_iconst (v := 0) G dX6_school_24 rfl ?_
  obtain ⟨z5, hz5, hf⟩ := nm_open hf
  refine mp_i X hM mf_5 hz5 dX6_school_25 (fun H locs hM => ?_)
  refine g_aload_n G dX6_school_28 rfl (lv_at hl 0 rfl) ?_
  refine g_iconst (v := (-1)) G dX6_school_29 rfl ?_
  obtain ⟨z6, hz6, hf⟩ := nm_open hf
  refine mp_i X hM mf_6 hz6 dX6_school_30 (fun H locs hM => ?_)
  refine g_aload_n G dX6_school_33 rfl (lv_at hl 0 rfl) ?_
  refine g_iconst (v := 0) G dX6_school_34 rfl ?_
  obtain ⟨z7, hz7, hf⟩ := nm_open hf
  refine mp_i X hM mf_51 hz7 dX6_school_35 (fun H locs hM => ?_)
  refine g_aload_n G dX6_school_38 rfl (lv_at hl 0 rfl) ?_
  refine g_iconst (v := 0) G dX6_school_39 rfl ?_
  obtain ⟨z8, hz8, hf⟩ := nm_open hf
  refine mp_i X hM mf_50 hz8 dX6_school_40 (fun H locs hM => ?_)
  refine g_aload_n G dX6_school_43 rfl (lv_at hl 0 rfl) ?_
  refine mg_a X hM mf_39 dX6_school_44 ?_
  refine g_iconst (v := 0) G dX6_school_47 rfl ?_
  refine g_iconst (v := 0) G dX6_school_48 rfl ?_
  obtain ⟨z9, hz9, hf⟩ := nm_open hf
  refine m_iast X hM (mIs.of mf_39) (by decide) hz9 dX6_school_49 (fun H locs hM => ?_)
  refine g_aload_n G dX6_school_50 rfl (lv_at hl 0 rfl) ?_
  refine mg_a X hM mf_39 dX6_school_51 ?_
  refine g_iconst (v := 1) G dX6_school_54 rfl ?_
  refine g_iconst (v := 0) G dX6_school_55 rfl ?_
  obtain ⟨z10, hz10, hf⟩ := nm_open hf
  refine m_iast X hM (mIs.of mf_39) (by decide) hz10 dX6_school_56 (fun H locs hM => ?_)
  refine g_iconst (v := 0) G dX6_school_57 rfl ?_
  refine g_istore_n (lv' := [(1, .int 0), (0, .ref o)]) G dX6_school_58 rfl hl (Nat.le_of_ble_eq_true rfl) rfl (fun ls hl => ?_)
  obtain ⟨k92, hk92, hf⟩ := jn_open hf
  have K92 : ∀ (z11 : MS) (H : Heap) (locs : List Loc), k92 z11 = some (r, z') → MI D o ad H0 z11 H locs → ∀ ls : Array Slot, lv_has ls 2 [(0, .ref o)] → Z H locs 0 0 (F0 m 92 ls []) := by
    intro z11 H locs hf hM ls hl
    rw [hk92] at hf
    refine g_iconst (v := 0) G dX6_school_92 rfl ?_
    refine g_istore_n (lv' := [(1, .int 0), (0, .ref o)]) G dX6_school_93 rfl hl (Nat.le_of_ble_eq_true rfl) rfl (fun ls hl => ?_)
    obtain ⟨k112, hk112, hf⟩ := jn_open hf
    have K112 : ∀ (z12 : MS) (H : Heap) (locs : List Loc), k112 z12 = some (r, z') → MI D o ad H0 z12 H locs → ∀ ls : Array Slot, lv_has ls 2 [(0, .ref o)] → Z H locs 0 0 (F0 m 112 ls []) := by
      intro z12 H locs hf hM ls hl
      rw [hk112] at hf
      refine g_aload_n G dX6_school_112 rfl (lv_at hl 0 rfl) ?_
      refine mg_a X hM mf_46 dX6_school_113 ?_
      refine g_iconst (v := 0) G dX6_school_116 rfl ?_
      refine g_bipush (v := 10) G dX6_school_117 rfl ?_
      obtain ⟨z13, hz13, hf⟩ := nm_open hf
      refine m_iast X hM (mIs.of mf_46) (by decide) hz13 dX6_school_119 (fun H locs hM => ?_)
      refine g_aload_n G dX6_school_120 rfl (lv_at hl 0 rfl) ?_
      refine mg_a X hM mf_46 dX6_school_121 ?_
      refine g_iconst (v := 1) G dX6_school_124 rfl ?_
      refine g_iconst (v := 3) G dX6_school_125 rfl ?_
      obtain ⟨z14, hz14, hf⟩ := nm_open hf
      refine m_iast X hM (mIs.of mf_46) (by decide) hz14 dX6_school_126 (fun H locs hM => ?_)
      refine g_aload_n G dX6_school_127 rfl (lv_at hl 0 rfl) ?_
      refine mg_a X hM mf_46 dX6_school_128 ?_
      refine g_iconst (v := 2) G dX6_school_131 rfl ?_
      refine g_iconst (v := 0) G dX6_school_132 rfl ?_
      obtain ⟨z15, hz15, hf⟩ := nm_open hf
      refine m_iast X hM (mIs.of mf_46) (by decide) hz15 dX6_school_133 (fun H locs hM => ?_)
      obtain ⟨k156, hk156, hf⟩ := jn_open hf
      have K156 : ∀ (z16 : MS) (H : Heap) (locs : List Loc), k156 z16 = some (r, z') → MI D o ad H0 z16 H locs → ∀ ls : Array Slot, lv_has ls 2 [(0, .ref o)] → Z H locs 0 0 (F0 m 156 ls []) := by
        intro z16 H locs hf hM ls hl
        rw [hk156] at hf
        refine g_aload_n G dX6_school_156 rfl (lv_at hl 0 rfl) ?_
        refine g_aload_n G dX6_school_157 rfl (lv_at hl 0 rfl) ?_
        refine mg_i X hM mf_5 dX6_school_158 ?_
        obtain ⟨z17, hz17, hf⟩ := nm_open hf
        refine mp_i X hM mf_7 hz17 dX6_school_161 (fun H locs hM => ?_)
        refine g_aload_n G dX6_school_164 rfl (lv_at hl 0 rfl) ?_
        refine g_aload_n G dX6_school_165 rfl (lv_at hl 0 rfl) ?_
        refine mg_i X hM mf_6 dX6_school_166 ?_
        obtain ⟨z18, hz18, hf⟩ := nm_open hf
        refine mp_i X hM mf_8 hz18 dX6_school_169 (fun H locs hM => ?_)
        refine g_aload_n G dX6_school_172 rfl (lv_at hl 0 rfl) ?_
        refine mg_i X hM mf_5 dX6_school_173 ?_
        refine g_if_eq (tgt := 191) G dX6_school_176 rfl (fun c1 => ?_) (fun c1 => ?_)
        · have hf := it_pos c1 hf
          refine g_aload_n G dX6_school_191 rfl (lv_at hl 0 rfl) ?_
          obtain ⟨z19, h1, hf⟩ := bnv_open hf
          refine m_callVv (As := []) (rest := []) X hM hl mc_stands (c_stands h1) rfl (Nat.le_of_ble_eq_true rfl) (Nat.le_of_ble_eq_true rfl) rfl dX6_school_192 (fun H locs hM => ?_)
          refine g_aload_n G dX6_school_195 rfl (lv_at hl 0 rfl) ?_
          refine mg_i X hM mf_51 dX6_school_196 ?_
          exact m_iret X hM hf dX6_school_199
        · have hf := it_neg c1 hf
          refine g_aload_n G dX6_school_179 rfl (lv_at hl 0 rfl) ?_
          refine mg_a X hM mf_9 dX6_school_180 ?_
          refine g_iconst (v := 1) G dX6_school_183 rfl ?_
          refine g_dup2_11 G dX6_school_184 rfl rfl ?_
          refine m_iald X hM (mIs.of mf_9) (by decide) dX6_school_185 ?_
          refine g_iconst (v := 1) G dX6_school_186 rfl ?_
          refine g_iadd G dX6_school_187 ?_
          obtain ⟨z20, hz20, hf⟩ := nm_open hf
          refine m_iast X hM (mIs.of mf_9) (by decide) hz20 dX6_school_188 (fun H locs hM => ?_)
          refine g_iconst (v := (-1)) G dX6_school_189 rfl ?_
          exact m_iret X hM hf dX6_school_190
      have L134 : ∀ (n : Nat) (z21 : MS) (H : Heap) (locs : List Loc), fx (m_school_L134 k156) (fun _ => none) n z21 = some (r, z') → MI D o ad H0 z21 H locs → ∀ ls : Array Slot, lv_has ls 2 [(0, .ref o)] → Z H locs 0 0 (F0 m 134 ls []) := by
        intro n
        induction n with
        | zero => intro z21 H locs hf; exact absurd hf (by intro q; cases q)
        | succ n ih134 =>
          intro z21 H locs hf hM ls hl
          rw [fx_s] at hf
          generalize fx (m_school_L134 k156) (fun _ => none) n = s134 at hf ih134
          unfold m_school_L134 at hf
          refine g_aload_n G dX6_school_134 rfl (lv_at hl 0 rfl) ?_
          refine mg_i X hM mf_5 dX6_school_135 ?_
          refine g_if_ne (tgt := 156) G dX6_school_138 rfl (fun c2 => ?_) (fun c2 => ?_)
          · have hf := it_neg c2 hf
            exact K156 _ _ _ hf hM ls (lv_sub hl [0] rfl)
          · have hf := it_pos c2 hf
            refine g_aload_n G dX6_school_141 rfl (lv_at hl 0 rfl) ?_
            obtain ⟨r1, z22, h2, hf⟩ := bnd_open hf
            refine m_callVi (As := []) (rest := []) X hM hl mc_look (c_look h2) rfl (Nat.le_of_ble_eq_true rfl) (Nat.le_of_ble_eq_true rfl) rfl dX6_school_142 (fun H locs hM => ?_)
            refine g_iconst (v := (-1)) G dX6_school_145 rfl ?_
            refine g_icmp_eq (tgt := 156) G dX6_school_146 rfl (fun c3 => ?_) (fun c3 => ?_)
            · have hf := it_pos c3 hf
              exact K156 _ _ _ hf hM ls (lv_sub hl [0] rfl)
            · have hf := it_neg c3 hf
              refine g_aload_n G dX6_school_149 rfl (lv_at hl 0 rfl) ?_
              obtain ⟨z23, h3, hf⟩ := bnv_open hf
              refine m_callVv (As := []) (rest := []) X hM hl mc_statementTold (c_statementTold h3) rfl (Nat.le_of_ble_eq_true rfl) (Nat.le_of_ble_eq_true rfl) rfl dX6_school_150 (fun H locs hM => ?_)
              refine g_goto (tgt := 134) G dX6_school_153 rfl ?_
              exact ih134 _ _ _ hf hM ls (lv_sub hl [0] rfl)
      exact L134 FU _ _ _ hf hM ls (lv_sub hl [0] rfl)
    have L94 : ∀ (n : Nat) (x1 : Int32) (z24 : MS) (H : Heap) (locs : List Loc), fx (m_school_L94 k112) (fun _ _ => none) n x1 z24 = some (r, z') → MI D o ad H0 z24 H locs → ∀ ls : Array Slot, lv_has ls 2 [(0, .ref o), (1, .int x1)] → Z H locs 0 0 (F0 m 94 ls []) := by
      intro n
      induction n with
      | zero => intro x1 z24 H locs hf; exact absurd hf (by intro q; cases q)
      | succ n ih94 =>
        intro x1 z24 H locs hf hM ls hl
        rw [fx_s] at hf
        generalize fx (m_school_L94 k112) (fun _ _ => none) n = s94 at hf ih94
        unfold m_school_L94 at hf
        refine g_iload_n G dX6_school_94 rfl (lv_at hl 1 rfl) ?_
        refine g_iconst (v := 3) G dX6_school_95 rfl ?_
        refine g_icmp_ge (tgt := 112) G dX6_school_96 rfl (fun c4 => ?_) (fun c4 => ?_)
        · have hf := it_pos c4 hf
          exact K112 _ _ _ hf hM ls (lv_sub hl [0] rfl)
        · have hf := it_neg c4 hf
          refine g_aload_n G dX6_school_99 rfl (lv_at hl 0 rfl) ?_
          refine mg_a X hM mf_47 dX6_school_100 ?_
          refine g_iload_n G dX6_school_103 rfl (lv_at hl 1 rfl) ?_
          refine g_iconst (v := (-1)) G dX6_school_104 rfl ?_
          obtain ⟨b1, hf⟩ := ck_open hf
          obtain ⟨z25, hz25, hf⟩ := nm_open hf
          refine m_iast X hM (mIs.of mf_47) b1 hz25 dX6_school_105 (fun H locs hM => ?_)
          refine g_iinc (v := x1 + 1) (lv' := [(1, .int (x1 + 1)), (0, .ref o)]) G dX6_school_106 hl (k := 1) rfl rfl (Nat.le_of_ble_eq_true rfl) rfl (fun ls hl => ?_)
          refine g_goto (tgt := 94) G dX6_school_109 rfl ?_
          exact ih94 _ _ _ _ hf hM ls (lv_sub hl [1, 0] rfl)
    exact L94 FU _ _ _ _ hf hM ls (lv_sub hl [1, 0] rfl)
  have L59 : ∀ (n : Nat) (x2 : Int32) (z26 : MS) (H : Heap) (locs : List Loc), fx (m_school_L59 k92) (fun _ _ => none) n x2 z26 = some (r, z') → MI D o ad H0 z26 H locs → ∀ ls : Array Slot, lv_has ls 2 [(0, .ref o), (1, .int x2)] → Z H locs 0 0 (F0 m 59 ls []) := by
    intro n
    induction n with
    | zero => intro x2 z26 H locs hf; exact absurd hf (by intro q; cases q)
    | succ n ih59 =>
      intro x2 z26 H locs hf hM ls hl
      rw [fx_s] at hf
      generalize fx (m_school_L59 k92) (fun _ _ => none) n = s59 at hf ih59
      unfold m_school_L59 at hf
      refine g_iload_n G dX6_school_59 rfl (lv_at hl 1 rfl) ?_
      refine g_bipush (v := 8) G dX6_school_60 rfl ?_
      refine g_icmp_ge (tgt := 92) G dX6_school_62 rfl (fun c5 => ?_) (fun c5 => ?_)
      · have hf := it_pos c5 hf
        exact K92 _ _ _ hf hM ls (lv_sub hl [0] rfl)
      · have hf := it_neg c5 hf
        refine g_aload_n G dX6_school_65 rfl (lv_at hl 0 rfl) ?_
        refine mg_a X hM mf_43 dX6_school_66 ?_
        refine g_iload_n G dX6_school_69 rfl (lv_at hl 1 rfl) ?_
        refine g_iconst (v := 0) G dX6_school_70 rfl ?_
        obtain ⟨b2, hf⟩ := ck_open hf
        obtain ⟨z27, hz27, hf⟩ := nm_open hf
        refine m_iast X hM (mIs.of mf_43) b2 hz27 dX6_school_71 (fun H locs hM => ?_)
        refine g_aload_n G dX6_school_72 rfl (lv_at hl 0 rfl) ?_
        refine mg_a X hM mf_44 dX6_school_73 ?_
        refine g_iload_n G dX6_school_76 rfl (lv_at hl 1 rfl) ?_
        refine g_iconst (v := 0) G dX6_school_77 rfl ?_
        obtain ⟨b3, hf⟩ := ck_open hf
        obtain ⟨z28, hz28, hf⟩ := nm_open hf
        refine m_iast X hM (mIs.of mf_44) b3 hz28 dX6_school_78 (fun H locs hM => ?_)
        refine g_aload_n G dX6_school_79 rfl (lv_at hl 0 rfl) ?_
        refine mg_a X hM mf_45 dX6_school_80 ?_
        refine g_iload_n G dX6_school_83 rfl (lv_at hl 1 rfl) ?_
        refine g_iconst (v := (-1)) G dX6_school_84 rfl ?_
        obtain ⟨b4, hf⟩ := ck_open hf
        obtain ⟨z29, hz29, hf⟩ := nm_open hf
        refine m_iast X hM (mIs.of mf_45) b4 hz29 dX6_school_85 (fun H locs hM => ?_)
        refine g_iinc (v := x2 + 1) (lv' := [(1, .int (x2 + 1)), (0, .ref o)]) G dX6_school_86 hl (k := 1) rfl rfl (Nat.le_of_ble_eq_true rfl) rfl (fun ls hl => ?_)
        refine g_goto (tgt := 59) G dX6_school_89 rfl ?_
        exact ih59 _ _ _ _ hf hM ls (lv_sub hl [1, 0] rfl)
  exact L59 FU _ _ _ _ hf hM ls (lv_sub hl [1, 0] rfl)
noncomputable def m_fault (a1 : Int32) (z : MS) : Option (Int32 × MS) :=
  if a1 = 0 then
    some ((mI z 7), z)
  else
    if a1 = 1 then
      some ((mI z 8), z)
    else
      some ((-1), z)
set_option maxHeartbeats 1000000 in
theorem c_fault {l : Launch} {D : MD} {o : Nat} {ad : Nat → Nat} {a1 : Int32} {z z' : MS} {r : Int32} (hf : m_fault a1 z = some (r, z')) : MMet l D o ad yX6_fault cX6_fault 2 (some .int) 1 [.ref o, .int a1] z z' (some (.int r)) := by
  unfold m_fault at hf
  refine m_head pnX6 rfl (Nat.le_of_ble_eq_true rfl) (fun m Z H0 ls X hM hl => ?_)
  have G := X.g
  have hl : lv_has ls 2 [(0, .ref o), (1, .int a1)] := hl
  refine g_iload_n G dX6_fault_0 rfl (lv_at hl 1 rfl) ?_
  refine g_if_ne (tgt := 11) G dX6_fault_1 rfl (fun c1 => ?_) (fun c1 => ?_)
  · have hf := it_neg c1 hf
    refine g_iload_n G dX6_fault_11 rfl (lv_at hl 1 rfl) ?_
    refine g_iconst (v := 1) G dX6_fault_12 rfl ?_
    refine g_icmp_ne (tgt := 23) G dX6_fault_13 rfl (fun c2 => ?_) (fun c2 => ?_)
    · have hf := it_neg c2 hf
      refine g_iconst (v := (-1)) G dX6_fault_23 rfl ?_
      exact m_iret X hM hf dX6_fault_24
    · have hf := it_pos c2 hf
      refine g_aload_n G dX6_fault_16 rfl (lv_at hl 0 rfl) ?_
      refine mg_i X hM mf_8 dX6_fault_17 ?_
      refine g_goto (tgt := 24) G dX6_fault_20 rfl ?_
      exact m_iret X hM hf dX6_fault_24
  · have hf := it_pos c1 hf
    refine g_aload_n G dX6_fault_4 rfl (lv_at hl 0 rfl) ?_
    refine mg_i X hM mf_7 dX6_fault_5 ?_
    refine g_goto (tgt := 24) G dX6_fault_8 rfl ?_
    exact m_iret X hM hf dX6_fault_24
theorem mc_factMany : mcV yX6_factMany cX6_factMany 1 (some .int) 0 398 := ⟨lw_V q2170 q2172 qs101 q157 q2173, ⟨rfl, by decide +kernel, by decide +kernel, by decide +kernel⟩, Nat.le_of_ble_eq_true rfl⟩
noncomputable def m_factMany (z : MS) : Option (Int32 × MS) :=
  some ((mA z 39 (Int32.toNatClampNeg 2)), z)
set_option maxHeartbeats 1000000 in
theorem c_factMany {l : Launch} {D : MD} {o : Nat} {ad : Nat → Nat} {z z' : MS} {r : Int32} (hf : m_factMany z = some (r, z')) : MMet l D o ad yX6_factMany cX6_factMany 1 (some .int) 1 [.ref o] z z' (some (.int r)) := by
  unfold m_factMany at hf
  refine m_head pnX6 rfl (Nat.le_of_ble_eq_true rfl) (fun m Z H0 ls X hM hl => ?_)
  have G := X.g
  have hl : lv_has ls 1 [(0, .ref o)] := hl
  refine g_aload_n G dX6_factMany_0 rfl (lv_at hl 0 rfl) ?_
  refine mg_a X hM mf_39 dX6_factMany_1 ?_
  refine g_iconst (v := 2) G dX6_factMany_4 rfl ?_
  refine m_iald X hM (mIs.of mf_39) (by decide) dX6_factMany_5 ?_
  exact m_iret X hM hf dX6_factMany_6
theorem mc_personMany : mcV yX6_personMany cX6_personMany 1 (some .int) 0 401 := ⟨lw_V q2138 q2140 qs96 q157 q2141, ⟨rfl, by decide +kernel, by decide +kernel, by decide +kernel⟩, Nat.le_of_ble_eq_true rfl⟩
noncomputable def m_personMany (z : MS) : Option (Int32 × MS) :=
  some ((mA z 39 (Int32.toNatClampNeg 3)), z)
set_option maxHeartbeats 1000000 in
theorem c_personMany {l : Launch} {D : MD} {o : Nat} {ad : Nat → Nat} {z z' : MS} {r : Int32} (hf : m_personMany z = some (r, z')) : MMet l D o ad yX6_personMany cX6_personMany 1 (some .int) 1 [.ref o] z z' (some (.int r)) := by
  unfold m_personMany at hf
  refine m_head pnX6 rfl (Nat.le_of_ble_eq_true rfl) (fun m Z H0 ls X hM hl => ?_)
  have G := X.g
  have hl : lv_has ls 1 [(0, .ref o)] := hl
  refine g_aload_n G dX6_personMany_0 rfl (lv_at hl 0 rfl) ?_
  refine mg_a X hM mf_39 dX6_personMany_1 ?_
  refine g_iconst (v := 3) G dX6_personMany_4 rfl ?_
  refine m_iald X hM (mIs.of mf_39) (by decide) dX6_personMany_5 ?_
  exact m_iret X hM hf dX6_personMany_6
theorem mc_isFact : mcV yX6_isFact cX6_isFact 2 (some .boolean) 1 495 := ⟨lw_V q2166 q2168 qs100 q157 q2169, ⟨rfl, by decide +kernel, by decide +kernel, by decide +kernel⟩, Nat.le_of_ble_eq_true rfl⟩
noncomputable def m_isFact (a1 : Int32) (z : MS) : Option (Bool × MS) :=
  bnd (m_factMany z) fun r1 z1 =>
  bnd (m_isIn (Int32.toInt64 a1) 0 (Int32.toInt64 (r1 - 1)) z1) fun r2 z2 =>
  some (r2, z2)
set_option maxHeartbeats 1000000 in
theorem c_isFact {l : Launch} {D : MD} {o : Nat} {ad : Nat → Nat} {a1 : Int32} {z z' : MS} {r : Bool} (hf : m_isFact a1 z = some (r, z')) : MMet l D o ad yX6_isFact cX6_isFact 2 (some .boolean) 2 [.ref o, .int a1] z z' (some (.int (bI r))) := by
  unfold m_isFact at hf
  refine m_head pnX6 rfl (Nat.le_of_ble_eq_true rfl) (fun m Z H0 ls X hM hl => ?_)
  have G := X.g
  have hl : lv_has ls 2 [(0, .ref o), (1, .int a1)] := hl
  refine g_iload_n G dX6_isFact_0 rfl (lv_at hl 1 rfl) ?_
  refine g_i2l (v := Int32.toInt64 a1) G dX6_isFact_1 rfl ?_
  refine g_lconst (v := 0) G dX6_isFact_2 rfl ?_
  refine g_aload_n G dX6_isFact_3 rfl (lv_at hl 0 rfl) ?_
  obtain ⟨r1, z1, h1, hf⟩ := bnd_open hf
  refine m_callVi (As := []) (rest := [.long 0, .long (Int32.toInt64 a1)]) X hM hl mc_factMany (c_factMany h1) rfl (Nat.le_of_ble_eq_true rfl) (Nat.le_of_ble_eq_true rfl) rfl dX6_isFact_4 (fun H locs hM => ?_)
  refine g_iconst (v := 1) G dX6_isFact_7 rfl ?_
  refine g_isub G dX6_isFact_8 ?_
  refine g_i2l (v := Int32.toInt64 (r1 - 1)) G dX6_isFact_9 rfl ?_
  obtain ⟨r2, z2, h2, hf⟩ := bnd_open hf
  refine m_callSi (As := [.long (Int32.toInt64 a1), .long 0, .long (Int32.toInt64 (r1 - 1))]) (rest := []) X hM hl mc_isIn (c_isIn h2) rfl (Nat.le_of_ble_eq_true rfl) (Nat.le_of_ble_eq_true rfl) rfl dX6_isFact_10 (fun H locs hM => ?_)
  exact m_zret X hM hf dX6_isFact_13
theorem mc_isPerson : mcV yX6_isPerson cX6_isPerson 2 (some .boolean) 1 504 := ⟨lw_V q2186 q2188 qs104 q157 q2189, ⟨rfl, by decide +kernel, by decide +kernel, by decide +kernel⟩, Nat.le_of_ble_eq_true rfl⟩
noncomputable def m_isPerson (a1 : Int32) (z : MS) : Option (Bool × MS) :=
  bnd (m_personMany z) fun r1 z1 =>
  bnd (m_isIn (Int32.toInt64 a1) 0 (Int32.toInt64 (r1 - 1)) z1) fun r2 z2 =>
  some (r2, z2)
set_option maxHeartbeats 1000000 in
theorem c_isPerson {l : Launch} {D : MD} {o : Nat} {ad : Nat → Nat} {a1 : Int32} {z z' : MS} {r : Bool} (hf : m_isPerson a1 z = some (r, z')) : MMet l D o ad yX6_isPerson cX6_isPerson 2 (some .boolean) 2 [.ref o, .int a1] z z' (some (.int (bI r))) := by
  unfold m_isPerson at hf
  refine m_head pnX6 rfl (Nat.le_of_ble_eq_true rfl) (fun m Z H0 ls X hM hl => ?_)
  have G := X.g
  have hl : lv_has ls 2 [(0, .ref o), (1, .int a1)] := hl
  refine g_iload_n G dX6_isPerson_0 rfl (lv_at hl 1 rfl) ?_
  refine g_i2l (v := Int32.toInt64 a1) G dX6_isPerson_1 rfl ?_
  refine g_lconst (v := 0) G dX6_isPerson_2 rfl ?_
  refine g_aload_n G dX6_isPerson_3 rfl (lv_at hl 0 rfl) ?_
  obtain ⟨r1, z1, h1, hf⟩ := bnd_open hf
  refine m_callVi (As := []) (rest := [.long 0, .long (Int32.toInt64 a1)]) X hM hl mc_personMany (c_personMany h1) rfl (Nat.le_of_ble_eq_true rfl) (Nat.le_of_ble_eq_true rfl) rfl dX6_isPerson_4 (fun H locs hM => ?_)
  refine g_iconst (v := 1) G dX6_isPerson_7 rfl ?_
  refine g_isub G dX6_isPerson_8 ?_
  refine g_i2l (v := Int32.toInt64 (r1 - 1)) G dX6_isPerson_9 rfl ?_
  obtain ⟨r2, z2, h2, hf⟩ := bnd_open hf
  refine m_callSi (As := [.long (Int32.toInt64 a1), .long 0, .long (Int32.toInt64 (r1 - 1))]) (rest := []) X hM hl mc_isIn (c_isIn h2) rfl (Nat.le_of_ble_eq_true rfl) (Nat.le_of_ble_eq_true rfl) rfl dX6_isPerson_10 (fun H locs hM => ?_)
  exact m_zret X hM hf dX6_isPerson_13
