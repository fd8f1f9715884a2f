/-! PART 24: the Model's methods as plain functions, and their contracts (printed by decomp.py) -/
set_option maxRecDepth 100000

noncomputable def m_probe_L149 (x1 : Int32) (k262 : Int32 → Int32 → MS → Option (Int32 × MS)) (s149 : Int32 → Int32 → Int32 → MS → Option (Int32 × MS)) (x4 : Int32) (x5 : Int32) (x6 : Int32) (z9 : MS) : Option (Int32 × MS) :=
  bnd (m_personMany z9) fun r4 z10 =>
  if r4 ≤ x6 then
    k262 x4 x5 z10
  else
    if x1 ≤ 0 then
      k262 x4 x5 z10
    else
      ck (inb (3 * x6) (mN 63)) <|
      ck (inb ((3 * x6) + 1) (mN 63)) <|
      jn (fun (x7 : Int32) (z11 : MS) =>
        ck (inb ((3 * x6) + 2) (mN 63)) <|
        jn (fun (x8 : Int32) (z12 : MS) =>
          jn (fun (x9 : Int32) (x10 : Int32) (z13 : MS) =>
            s149 x9 x10 (x6 + 1) z13) fun j256 =>
          jn (fun (z14 : MS) =>
            j256 x6 x8 z14) fun j248 =>
          if x4 = (-1) then
            j248 z12
          else
            if x8 < x5 then
              j248 z12
            else
              j256 x4 x5 z12) fun j232 =>
        if (mA z11 63 (Int32.toNatClampNeg ((3 * x6) + 2))) ≤ x7 then
          j232 x7 z11
        else
          ck (inb ((3 * x6) + 2) (mN 63)) <|
          j232 (mA z11 63 (Int32.toNatClampNeg ((3 * x6) + 2))) z11) fun j203 =>
      if (mA z10 63 (Int32.toNatClampNeg ((3 * x6) + 1))) ≤ (mA z10 63 (Int32.toNatClampNeg (3 * x6))) then
        j203 (mA z10 63 (Int32.toNatClampNeg (3 * x6))) z10
      else
        ck (inb ((3 * x6) + 1) (mN 63)) <|
        j203 (mA z10 63 (Int32.toNatClampNeg ((3 * x6) + 1))) z10
noncomputable def m_probe_L94 (x11 : Int32) (j130 : Int32 → MS → Option (Int32 × MS)) (s94 : Int32 → MS → Option (Int32 × MS)) (x14 : Int32) (z19 : MS) : Option (Int32 × MS) :=
  bnd (m_personMany z19) fun r7 z20 =>
  if r7 ≤ x14 then
    j130 (x11 + 1) z20
  else
    ck (inb x14 (mN 62)) <|
    ck (inb ((3 * x14) + (mA z20 62 (Int32.toNatClampNeg x14))) (mN 63)) <|
    ck (inb ((3 * x14) + (mA z20 62 (Int32.toNatClampNeg x14))) (mN 63)) <|
    nm (wA z20 63 (Int32.toNatClampNeg ((3 * x14) + (mA z20 62 (Int32.toNatClampNeg x14)))) ((mA z20 63 (Int32.toNatClampNeg ((3 * x14) + (mA z20 62 (Int32.toNatClampNeg x14))))) + 1)) fun z21 =>
    s94 (x14 + 1) z21
noncomputable def m_probe_L65 (a1 : Int32) (a2 : Int32) (k136 : Int32 → MS → Option (Int32 × MS)) (s65 : Int32 → Int32 → MS → Option (Int32 × MS)) (x11 : Int32) (x12 : Int32) (z15 : MS) : Option (Int32 × MS) :=
  bnd (m_personMany z15) fun r5 z16 =>
  if r5 ≤ x12 then
    k136 x11 z16
  else
    bnd (m_isSource x12 a1 a2 z16) fun r6 z17 =>
    jn (fun (x13 : Int32) (z18 : MS) =>
      s65 x13 (x12 + 1) z18) fun j130 =>
    if (bI r6) = 0 then
      j130 x11 z17
    else
      fx (m_probe_L94 x11 j130) (fun _ _ => none) FU 0 z17
noncomputable def m_probe_L37 (k58 : MS → Option (Int32 × MS)) (s37 : Int32 → MS → Option (Int32 × MS)) (x15 : Int32) (z22 : MS) : Option (Int32 × MS) :=
  if 24 ≤ x15 then
    k58 z22
  else
    ck (inb x15 (mN 63)) <|
    nm (wA z22 63 (Int32.toNatClampNeg x15) 0) fun z23 =>
    s37 (x15 + 1) z23
noncomputable def m_probe (a1 : Int32) (a2 : Int32) (a3 : Int32) (z : MS) : Option (Int32 × MS) :=
  bnd (m_isFact a1 z) fun r1 z1 =>
  if (bI r1) = 0 then
    some ((-1), z1)
  else
    bnd (m_isAhead a2 0 20 z1) fun r2 z2 =>
    if (bI r2) = 0 then
      some ((-1), z2)
    else
      bnd (m_isIn (Int32.toInt64 a3) 0 1 z2) fun r3 z3 =>
      if (bI r3) = 0 then
        some ((-1), z3)
      else
        jn (fun (z4 : MS) =>
          bnv (m_putsAside z4) fun z5 =>
          jn (fun (x1 : Int32) (z6 : MS) =>
            bnv (m_takesBack z6) fun z7 =>
            jn (fun (x2 : Int32) (x3 : Int32) (z8 : MS) =>
              if x2 = (-1) then
                some ((-1), z8)
              else
                if a3 = 0 then
                  some (x2, z8)
                else
                  some (x3, z8)) fun k262 =>
            fx (m_probe_L149 x1 k262) (fun _ _ _ _ => none) FU (-1) 0 0 z7) fun k136 =>
          fx (m_probe_L65 a1 a2 k136) (fun _ _ _ => none) FU 0 0 z5) fun k58 =>
        fx (m_probe_L37 k58) (fun _ _ => none) FU 0 z3
set_option maxHeartbeats 1000000 in
theorem c_probe {l : Launch} {D : MD} {o : Nat} {ad : Nat → Nat} {a1 : Int32} {a2 : Int32} {a3 : Int32} {z z' : MS} {r : Int32} (hf : m_probe a1 a2 a3 z = some (r, z')) : MMet l D o ad yX6_probe cX6_probe 9 (some .int) 10 [.ref o, .int a1, .int a2, .int a3] z z' (some (.int r)) := by
  unfold m_probe at hf
  refine m_head pnX6 rfl (Nat.le_of_ble_eq_true rfl) (fun m Z H0 ls X hM hl => ?_)
  have G := X.g
  have hl : lv_has ls 9 [(0, .ref o), (1, .int a1), (2, .int a2), (3, .int a3)] := hl
  refine g_aload_n G dX6_probe_0 rfl (lv_at hl 0 rfl) ?_
  refine g_iload_n G dX6_probe_1 rfl (lv_at hl 1 rfl) ?_
  obtain ⟨r1, z1, h1, hf⟩ := bnd_open hf
  refine m_callVi (As := [.int a1]) (rest := []) X hM hl mc_isFact (c_isFact h1) rfl (Nat.le_of_ble_eq_true rfl) (Nat.le_of_ble_eq_true rfl) rfl dX6_probe_2 (fun H locs hM => ?_)
  refine g_if_eq (tgt := 29) G dX6_probe_5 rfl (fun c1 => ?_) (fun c1 => ?_)
  · have hf := it_pos c1 hf
    refine g_iconst (v := (-1)) G dX6_probe_29 rfl ?_
    exact m_iret X hM hf dX6_probe_30
  · have hf := it_neg c1 hf
    refine g_aload_n G dX6_probe_8 rfl (lv_at hl 0 rfl) ?_
    refine g_iload_n G dX6_probe_9 rfl (lv_at hl 2 rfl) ?_
    refine g_iconst (v := 0) G dX6_probe_10 rfl ?_
    refine g_bipush (v := 20) G dX6_probe_11 rfl ?_
    obtain ⟨r2, z2, h2, hf⟩ := bnd_open hf
    refine m_callVi (As := [.int a2, .int 0, .int 20]) (rest := []) X hM hl mc_isAhead (c_isAhead h2) rfl (Nat.le_of_ble_eq_true rfl) (Nat.le_of_ble_eq_true rfl) rfl dX6_probe_13 (fun H locs hM => ?_)
    refine g_if_eq (tgt := 29) G dX6_probe_16 rfl (fun c2 => ?_) (fun c2 => ?_)
    · have hf := it_pos c2 hf
      refine g_iconst (v := (-1)) G dX6_probe_29 rfl ?_
      exact m_iret X hM hf dX6_probe_30
    · have hf := it_neg c2 hf
      refine g_iload_n G dX6_probe_19 rfl (lv_at hl 3 rfl) ?_
      refine g_i2l (v := Int32.toInt64 a3) G dX6_probe_20 rfl ?_
      refine g_lconst (v := 0) G dX6_probe_21 rfl ?_
      refine g_lconst (v := 1) G dX6_probe_22 rfl ?_
      obtain ⟨r3, z3, h3, hf⟩ := bnd_open hf
      refine m_callSi (As := [.long (Int32.toInt64 a3), .long 0, .long 1]) (rest := []) X hM hl mc_isIn (c_isIn h3) rfl (Nat.le_of_ble_eq_true rfl) (Nat.le_of_ble_eq_true rfl) rfl dX6_probe_23 (fun H locs hM => ?_)
      refine g_if_ne (tgt := 31) G dX6_probe_26 rfl (fun c3 => ?_) (fun c3 => ?_)
      · have hf := it_neg c3 hf
        refine g_iconst (v := 0) G dX6_probe_31 rfl ?_
        refine g_istore (lv' := [(4, .int 0), (0, .ref o), (1, .int a1), (2, .int a2), (3, .int a3)]) G dX6_probe_32 hl (Nat.le_of_ble_eq_true rfl) rfl (fun ls hl => ?_)
        refine g_iconst (v := 0) G dX6_probe_34 rfl ?_
        refine g_istore (lv' := [(5, .int 0), (4, .int 0), (0, .ref o), (1, .int a1), (2, .int a2), (3, .int a3)]) G dX6_probe_35 hl (Nat.le_of_ble_eq_true rfl) rfl (fun ls hl => ?_)
        obtain ⟨k58, hk58, hf⟩ := jn_open hf
        have K58 : ∀ (z4 : MS) (H : Heap) (locs : List Loc), k58 z4 = some (r, z') → MI D o ad H0 z4 H locs → ∀ ls : Array Slot, lv_has ls 9 [(0, .ref o), (1, .int a1), (2, .int a2), (3, .int a3), (4, .int 0)] → Z H locs 0 0 (F0 m 58 ls []) := by
          intro z4 H locs hf hM ls hl
          rw [hk58] at hf
          refine g_aload_n G dX6_probe_58 rfl (lv_at hl 0 rfl) ?_
          obtain ⟨z5, h4, hf⟩ := bnv_open hf
          refine m_callVv (As := []) (rest := []) X hM hl mc_putsAside (c_putsAside h4) rfl (Nat.le_of_ble_eq_true rfl) (Nat.le_of_ble_eq_true rfl) rfl dX6_probe_59 (fun H locs hM => ?_)
          refine g_iconst (v := 0) G dX6_probe_62 rfl ?_
          refine g_istore (lv' := [(5, .int 0), (0, .ref o), (1, .int a1), (2, .int a2), (3, .int a3), (4, .int 0)]) G dX6_probe_63 hl (Nat.le_of_ble_eq_true rfl) rfl (fun ls hl => ?_)
          obtain ⟨k136, hk136, hf⟩ := jn_open hf
          have K136 : ∀ (x1 : Int32) (z6 : MS) (H : Heap) (locs : List Loc), k136 x1 z6 = some (r, z') → MI D o ad H0 z6 H locs → ∀ ls : Array Slot, lv_has ls 9 [(0, .ref o), (3, .int a3), (4, .int x1)] → Z H locs 0 0 (F0 m 136 ls []) := by
            intro x1 z6 H locs hf hM ls hl
            rw [hk136] at hf
            refine g_aload_n G dX6_probe_136 rfl (lv_at hl 0 rfl) ?_
            obtain ⟨z7, h5, hf⟩ := bnv_open hf
            refine m_callVv (As := []) (rest := []) X hM hl mc_takesBack (c_takesBack h5) rfl (Nat.le_of_ble_eq_true rfl) (Nat.le_of_ble_eq_true rfl) rfl dX6_probe_137 (fun H locs hM => ?_)
            refine g_iconst (v := (-1)) G dX6_probe_140 rfl ?_
            refine g_istore (lv' := [(5, .int (-1)), (0, .ref o), (3, .int a3), (4, .int x1)]) G dX6_probe_141 hl (Nat.le_of_ble_eq_true rfl) rfl (fun ls hl => ?_)
            refine g_iconst (v := 0) G dX6_probe_143 rfl ?_
            refine g_istore (lv' := [(6, .int 0), (5, .int (-1)), (0, .ref o), (3, .int a3), (4, .int x1)]) G dX6_probe_144 hl (Nat.le_of_ble_eq_true rfl) rfl (fun ls hl => ?_)
            refine g_iconst (v := 0) G dX6_probe_146 rfl ?_
            refine g_istore (lv' := [(7, .int 0), (6, .int 0), (5, .int (-1)), (0, .ref o), (3, .int a3), (4, .int x1)]) G dX6_probe_147 hl (Nat.le_of_ble_eq_true rfl) rfl (fun ls hl => ?_)
            obtain ⟨k262, hk262, hf⟩ := jn_open hf
            have K262 : ∀ (x2 : Int32) (x3 : Int32) (z8 : MS) (H : Heap) (locs : List Loc), k262 x2 x3 z8 = some (r, z') → MI D o ad H0 z8 H locs → ∀ ls : Array Slot, lv_has ls 9 [(3, .int a3), (5, .int x2), (6, .int x3)] → Z H locs 0 0 (F0 m 262 ls []) := by
              intro x2 x3 z8 H locs hf hM ls hl
              rw [hk262] at hf
              refine g_iload G dX6_probe_262 (lv_at hl 1 rfl) ?_
              refine g_iconst (v := (-1)) G dX6_probe_264 rfl ?_
              refine g_icmp_ne (tgt := 272) G dX6_probe_265 rfl (fun c4 => ?_) (fun c4 => ?_)
              · have hf := it_neg c4 hf
                refine g_iload_n G dX6_probe_272 rfl (lv_at hl 0 rfl) ?_
                refine g_if_ne (tgt := 281) G dX6_probe_273 rfl (fun c5 => ?_) (fun c5 => ?_)
                · have hf := it_neg c5 hf
                  refine g_iload G dX6_probe_281 (lv_at hl 2 rfl) ?_
                  exact m_iret X hM hf dX6_probe_283
                · have hf := it_pos c5 hf
                  refine g_iload G dX6_probe_276 (lv_at hl 1 rfl) ?_
                  refine g_goto (tgt := 283) G dX6_probe_278 rfl ?_
                  exact m_iret X hM hf dX6_probe_283
              · have hf := it_pos c4 hf
                refine g_iconst (v := (-1)) G dX6_probe_268 rfl ?_
                refine g_goto (tgt := 283) G dX6_probe_269 rfl ?_
                exact m_iret X hM hf dX6_probe_283
            have L149 : ∀ (n : Nat) (x4 : Int32) (x5 : Int32) (x6 : Int32) (z9 : MS) (H : Heap) (locs : List Loc), fx (m_probe_L149 x1 k262) (fun _ _ _ _ => none) n x4 x5 x6 z9 = some (r, z') → MI D o ad H0 z9 H locs → ∀ ls : Array Slot, lv_has ls 9 [(0, .ref o), (3, .int a3), (4, .int x1), (5, .int x4), (6, .int x5), (7, .int x6)] → Z H locs 0 0 (F0 m 149 ls []) := by
              intro n
              induction n with
              | zero => intro x4 x5 x6 z9 H locs hf; exact absurd hf (by intro q; cases q)
              | succ n ih149 =>
                intro x4 x5 x6 z9 H locs hf hM ls hl
                rw [fx_s] at hf
                generalize fx (m_probe_L149 x1 k262) (fun _ _ _ _ => none) n = s149 at hf ih149
                unfold m_probe_L149 at hf
                refine g_iload G dX6_probe_149 (lv_at hl 5 rfl) ?_
                refine g_aload_n G dX6_probe_151 rfl (lv_at hl 0 rfl) ?_
                obtain ⟨r4, z10, h6, hf⟩ := bnd_open hf
                refine m_callVi (As := []) (rest := [.int x6]) X hM hl mc_personMany (c_personMany h6) rfl (Nat.le_of_ble_eq_true rfl) (Nat.le_of_ble_eq_true rfl) rfl dX6_probe_152 (fun H locs hM => ?_)
                refine g_icmp_ge (tgt := 262) G dX6_probe_155 rfl (fun c6 => ?_) (fun c6 => ?_)
                · have hf := it_pos c6 hf
                  exact K262 _ _ _ _ _ hf hM ls (lv_sub hl [1, 3, 4] rfl)
                · have hf := it_neg c6 hf
                  refine g_iload G dX6_probe_158 (lv_at hl 2 rfl) ?_
                  refine g_if_le (tgt := 262) G dX6_probe_160 rfl (fun c7 => ?_) (fun c7 => ?_)
                  · have hf := it_pos c7 hf
                    exact K262 _ _ _ _ _ hf hM ls (lv_sub hl [1, 3, 4] rfl)
                  · have hf := it_neg c7 hf
                    refine g_aload_n G dX6_probe_163 rfl (lv_at hl 0 rfl) ?_
                    refine mg_a X hM mf_63 dX6_probe_164 ?_
                    refine g_iconst (v := 3) G dX6_probe_167 rfl ?_
                    refine g_iload G dX6_probe_168 (lv_at hl 5 rfl) ?_
                    refine g_imul G dX6_probe_170 ?_
                    obtain ⟨b1, hf⟩ := ck_open hf
                    refine m_iald X hM (mIs.of mf_63) b1 dX6_probe_171 ?_
                    refine g_istore (lv' := [(8, .int (mA z10 63 (Int32.toNatClampNeg (3 * x6)))), (0, .ref o), (3, .int a3), (4, .int x1), (5, .int x4), (6, .int x5), (7, .int x6)]) G dX6_probe_172 hl (Nat.le_of_ble_eq_true rfl) rfl (fun ls hl => ?_)
                    refine g_aload_n G dX6_probe_174 rfl (lv_at hl 1 rfl) ?_
                    refine mg_a X hM mf_63 dX6_probe_175 ?_
                    refine g_iconst (v := 3) G dX6_probe_178 rfl ?_
                    refine g_iload G dX6_probe_179 (lv_at hl 6 rfl) ?_
                    refine g_imul G dX6_probe_181 ?_
                    refine g_iconst (v := 1) G dX6_probe_182 rfl ?_
                    refine g_iadd G dX6_probe_183 ?_
                    obtain ⟨b2, hf⟩ := ck_open hf
                    refine m_iald X hM (mIs.of mf_63) b2 dX6_probe_184 ?_
                    refine g_iload G dX6_probe_185 (lv_at hl 0 rfl) ?_
                    obtain ⟨j203, hj203, hf⟩ := jn_open hf
                    have J203 : ∀ (x7 : Int32) (z11 : MS) (H : Heap) (locs : List Loc), j203 x7 z11 = some (r, z') → MI D o ad H0 z11 H locs → ∀ ls : Array Slot, lv_has ls 9 [(0, .ref o), (3, .int a3), (4, .int x1), (5, .int x4), (6, .int x5), (7, .int x6), (8, .int x7)] → Z H locs 0 0 (F0 m 203 ls []) := by
                      intro x7 z11 H locs hf hM ls hl
                      rw [hj203] at hf
                      refine g_aload_n G dX6_probe_203 rfl (lv_at hl 0 rfl) ?_
                      refine mg_a X hM mf_63 dX6_probe_204 ?_
                      refine g_iconst (v := 3) G dX6_probe_207 rfl ?_
                      refine g_iload G dX6_probe_208 (lv_at hl 5 rfl) ?_
                      refine g_imul G dX6_probe_210 ?_
                      refine g_iconst (v := 2) G dX6_probe_211 rfl ?_
                      refine g_iadd G dX6_probe_212 ?_
                      obtain ⟨b3, hf⟩ := ck_open hf
                      refine m_iald X hM (mIs.of mf_63) b3 dX6_probe_213 ?_
                      refine g_iload G dX6_probe_214 (lv_at hl 6 rfl) ?_
                      obtain ⟨j232, hj232, hf⟩ := jn_open hf
                      have J232 : ∀ (x8 : Int32) (z12 : MS) (H : Heap) (locs : List Loc), j232 x8 z12 = some (r, z') → MI D o ad H0 z12 H locs → ∀ ls : Array Slot, lv_has ls 9 [(0, .ref o), (3, .int a3), (4, .int x1), (5, .int x4), (6, .int x5), (7, .int x6), (8, .int x8)] → Z H locs 0 0 (F0 m 232 ls []) := by
                        intro x8 z12 H locs hf hM ls hl
                        rw [hj232] at hf
                        refine g_iload G dX6_probe_232 (lv_at hl 3 rfl) ?_
                        refine g_iconst (v := (-1)) G dX6_probe_234 rfl ?_
                        obtain ⟨j256, hj256, hf⟩ := jn_open hf
                        have J256 : ∀ (x9 : Int32) (x10 : Int32) (z13 : MS) (H : Heap) (locs : List Loc), j256 x9 x10 z13 = some (r, z') → MI D o ad H0 z13 H locs → ∀ ls : Array Slot, lv_has ls 9 [(0, .ref o), (3, .int a3), (4, .int x1), (5, .int x9), (6, .int x10), (7, .int x6)] → Z H locs 0 0 (F0 m 256 ls []) := by
                          intro x9 x10 z13 H locs hf hM ls hl
                          rw [hj256] at hf
                          refine g_iinc (v := x6 + 1) (lv' := [(7, .int (x6 + 1)), (0, .ref o), (3, .int a3), (4, .int x1), (5, .int x9), (6, .int x10)]) G dX6_probe_256 hl (k := 5) rfl rfl (Nat.le_of_ble_eq_true rfl) rfl (fun ls hl => ?_)
                          refine g_goto (tgt := 149) G dX6_probe_259 rfl ?_
                          exact ih149 _ _ _ _ _ _ hf hM ls (lv_sub hl [1, 2, 3, 4, 5, 0] rfl)
                        obtain ⟨j248, hj248, hf⟩ := jn_open hf
                        have J248 : ∀ (z14 : MS) (H : Heap) (locs : List Loc), j248 z14 = some (r, z') → MI D o ad H0 z14 H locs → ∀ ls : Array Slot, lv_has ls 9 [(0, .ref o), (3, .int a3), (4, .int x1), (7, .int x6), (8, .int x8)] → Z H locs 0 0 (F0 m 248 ls []) := by
                          intro z14 H locs hf hM ls hl
                          rw [hj248] at hf
                          refine g_iload G dX6_probe_248 (lv_at hl 3 rfl) ?_
                          refine g_istore (lv' := [(5, .int x6), (0, .ref o), (3, .int a3), (4, .int x1), (7, .int x6), (8, .int x8)]) G dX6_probe_250 hl (Nat.le_of_ble_eq_true rfl) rfl (fun ls hl => ?_)
                          refine g_iload G dX6_probe_252 (lv_at hl 5 rfl) ?_
                          refine g_istore (lv' := [(6, .int x8), (5, .int x6), (0, .ref o), (3, .int a3), (4, .int x1), (7, .int x6), (8, .int x8)]) G dX6_probe_254 hl (Nat.le_of_ble_eq_true rfl) rfl (fun ls hl => ?_)
                          exact J256 _ _ _ _ _ hf hM ls (lv_sub hl [2, 3, 4, 1, 0, 5] rfl)
                        refine g_icmp_eq (tgt := 248) G dX6_probe_235 rfl (fun c8 => ?_) (fun c8 => ?_)
                        · have hf := it_pos c8 hf
                          exact J248 _ _ _ hf hM ls (lv_sub hl [0, 1, 2, 5, 6] rfl)
                        · have hf := it_neg c8 hf
                          refine g_iload G dX6_probe_238 (lv_at hl 6 rfl) ?_
                          refine g_iload G dX6_probe_240 (lv_at hl 4 rfl) ?_
                          refine g_icmp_lt (tgt := 248) G dX6_probe_242 rfl (fun c9 => ?_) (fun c9 => ?_)
                          · have hf := it_pos c9 hf
                            exact J248 _ _ _ hf hM ls (lv_sub hl [0, 1, 2, 5, 6] rfl)
                          · have hf := it_neg c9 hf
                            refine g_goto (tgt := 256) G dX6_probe_245 rfl ?_
                            exact J256 _ _ _ _ _ hf hM ls (lv_sub hl [0, 1, 2, 3, 4, 5] rfl)
                      refine g_icmp_le (tgt := 232) G dX6_probe_216 rfl (fun c10 => ?_) (fun c10 => ?_)
                      · have hf := it_pos c10 hf
                        exact J232 _ _ _ _ hf hM ls (lv_sub hl [0, 1, 2, 3, 4, 5, 6] rfl)
                      · have hf := it_neg c10 hf
                        refine g_aload_n G dX6_probe_219 rfl (lv_at hl 0 rfl) ?_
                        refine mg_a X hM mf_63 dX6_probe_220 ?_
                        refine g_iconst (v := 3) G dX6_probe_223 rfl ?_
                        refine g_iload G dX6_probe_224 (lv_at hl 5 rfl) ?_
                        refine g_imul G dX6_probe_226 ?_
                        refine g_iconst (v := 2) G dX6_probe_227 rfl ?_
                        refine g_iadd G dX6_probe_228 ?_
                        obtain ⟨b4, hf⟩ := ck_open hf
                        refine m_iald X hM (mIs.of mf_63) b4 dX6_probe_229 ?_
                        refine g_istore (lv' := [(8, .int (mA z11 63 (Int32.toNatClampNeg ((3 * x6) + 2)))), (0, .ref o), (3, .int a3), (4, .int x1), (5, .int x4), (6, .int x5), (7, .int x6)]) G dX6_probe_230 hl (Nat.le_of_ble_eq_true rfl) rfl (fun ls hl => ?_)
                        exact J232 _ _ _ _ hf hM ls (lv_sub hl [1, 2, 3, 4, 5, 6, 0] rfl)
                    refine g_icmp_le (tgt := 203) G dX6_probe_187 rfl (fun c11 => ?_) (fun c11 => ?_)
                    · have hf := it_pos c11 hf
                      exact J203 _ _ _ _ hf hM ls (lv_sub hl [1, 2, 3, 4, 5, 6, 0] rfl)
                    · have hf := it_neg c11 hf
                      refine g_aload_n G dX6_probe_190 rfl (lv_at hl 1 rfl) ?_
                      refine mg_a X hM mf_63 dX6_probe_191 ?_
                      refine g_iconst (v := 3) G dX6_probe_194 rfl ?_
                      refine g_iload G dX6_probe_195 (lv_at hl 6 rfl) ?_
                      refine g_imul G dX6_probe_197 ?_
                      refine g_iconst (v := 1) G dX6_probe_198 rfl ?_
                      refine g_iadd G dX6_probe_199 ?_
                      obtain ⟨b5, hf⟩ := ck_open hf
                      refine m_iald X hM (mIs.of mf_63) b5 dX6_probe_200 ?_
                      refine g_istore (lv' := [(8, .int (mA z10 63 (Int32.toNatClampNeg ((3 * x6) + 1)))), (0, .ref o), (3, .int a3), (4, .int x1), (5, .int x4), (6, .int x5), (7, .int x6)]) G dX6_probe_201 hl (Nat.le_of_ble_eq_true rfl) rfl (fun ls hl => ?_)
                      exact J203 _ _ _ _ hf hM ls (lv_sub hl [1, 2, 3, 4, 5, 6, 0] rfl)
            exact L149 FU _ _ _ _ _ _ hf hM ls (lv_sub hl [3, 4, 5, 2, 1, 0] rfl)
          have L65 : ∀ (n : Nat) (x11 : Int32) (x12 : Int32) (z15 : MS) (H : Heap) (locs : List Loc), fx (m_probe_L65 a1 a2 k136) (fun _ _ _ => none) n x11 x12 z15 = some (r, z') → MI D o ad H0 z15 H locs → ∀ ls : Array Slot, lv_has ls 9 [(0, .ref o), (1, .int a1), (2, .int a2), (3, .int a3), (4, .int x11), (5, .int x12)] → Z H locs 0 0 (F0 m 65 ls []) := by
            intro n
            induction n with
            | zero => intro x11 x12 z15 H locs hf; exact absurd hf (by intro q; cases q)
            | succ n ih65 =>
              intro x11 x12 z15 H locs hf hM ls hl
              rw [fx_s] at hf
              generalize fx (m_probe_L65 a1 a2 k136) (fun _ _ _ => none) n = s65 at hf ih65
              unfold m_probe_L65 at hf
              refine g_iload G dX6_probe_65 (lv_at hl 5 rfl) ?_
              refine g_aload_n G dX6_probe_67 rfl (lv_at hl 0 rfl) ?_
              obtain ⟨r5, z16, h7, hf⟩ := bnd_open hf
              refine m_callVi (As := []) (rest := [.int x12]) X hM hl mc_personMany (c_personMany h7) rfl (Nat.le_of_ble_eq_true rfl) (Nat.le_of_ble_eq_true rfl) rfl dX6_probe_68 (fun H locs hM => ?_)
              refine g_icmp_ge (tgt := 136) G dX6_probe_71 rfl (fun c12 => ?_) (fun c12 => ?_)
              · have hf := it_pos c12 hf
                exact K136 _ _ _ _ hf hM ls (lv_sub hl [0, 3, 4] rfl)
              · have hf := it_neg c12 hf
                refine g_aload_n G dX6_probe_74 rfl (lv_at hl 0 rfl) ?_
                refine g_iload G dX6_probe_75 (lv_at hl 5 rfl) ?_
                refine g_iload_n G dX6_probe_77 rfl (lv_at hl 1 rfl) ?_
                refine g_iload_n G dX6_probe_78 rfl (lv_at hl 2 rfl) ?_
                obtain ⟨r6, z17, h8, hf⟩ := bnd_open hf
                refine m_callVi (As := [.int x12, .int a1, .int a2]) (rest := []) X hM hl mc_isSource (c_isSource h8) rfl (Nat.le_of_ble_eq_true rfl) (Nat.le_of_ble_eq_true rfl) rfl dX6_probe_79 (fun H locs hM => ?_)
                obtain ⟨j130, hj130, hf⟩ := jn_open hf
                have J130 : ∀ (x13 : Int32) (z18 : MS) (H : Heap) (locs : List Loc), j130 x13 z18 = some (r, z') → MI D o ad H0 z18 H locs → ∀ ls : Array Slot, lv_has ls 9 [(0, .ref o), (1, .int a1), (2, .int a2), (3, .int a3), (4, .int x13), (5, .int x12)] → Z H locs 0 0 (F0 m 130 ls []) := by
                  intro x13 z18 H locs hf hM ls hl
                  rw [hj130] at hf
                  refine g_iinc (v := x12 + 1) (lv' := [(5, .int (x12 + 1)), (0, .ref o), (1, .int a1), (2, .int a2), (3, .int a3), (4, .int x13)]) G dX6_probe_130 hl (k := 5) rfl rfl (Nat.le_of_ble_eq_true rfl) rfl (fun ls hl => ?_)
                  refine g_goto (tgt := 65) G dX6_probe_133 rfl ?_
                  exact ih65 _ _ _ _ _ hf hM ls (lv_sub hl [1, 2, 3, 4, 5, 0] rfl)
                refine g_if_ne (tgt := 88) G dX6_probe_82 rfl (fun c13 => ?_) (fun c13 => ?_)
                · have hf := it_neg c13 hf
                  refine g_iinc (v := x11 + 1) (lv' := [(4, .int (x11 + 1)), (0, .ref o), (1, .int a1), (2, .int a2), (3, .int a3), (5, .int x12)]) G dX6_probe_88 hl (k := 4) rfl rfl (Nat.le_of_ble_eq_true rfl) rfl (fun ls hl => ?_)
                  refine g_iconst (v := 0) G dX6_probe_91 rfl ?_
                  refine g_istore (lv' := [(6, .int 0), (4, .int (x11 + 1)), (0, .ref o), (1, .int a1), (2, .int a2), (3, .int a3), (5, .int x12)]) G dX6_probe_92 hl (Nat.le_of_ble_eq_true rfl) rfl (fun ls hl => ?_)
                  have L94 : ∀ (n : Nat) (x14 : Int32) (z19 : MS) (H : Heap) (locs : List Loc), fx (m_probe_L94 x11 j130) (fun _ _ => none) n x14 z19 = some (r, z') → MI D o ad H0 z19 H locs → ∀ ls : Array Slot, lv_has ls 9 [(0, .ref o), (1, .int a1), (2, .int a2), (3, .int a3), (4, .int (x11 + 1)), (5, .int x12), (6, .int x14)] → Z H locs 0 0 (F0 m 94 ls []) := by
                    intro n
                    induction n with
                    | zero => intro x14 z19 H locs hf; exact absurd hf (by intro q; cases q)
                    | succ n ih94 =>
                      intro x14 z19 H locs hf hM ls hl
                      rw [fx_s] at hf
                      generalize fx (m_probe_L94 x11 j130) (fun _ _ => none) n = s94 at hf ih94
                      unfold m_probe_L94 at hf
                      refine g_iload G dX6_probe_94 (lv_at hl 6 rfl) ?_
                      refine g_aload_n G dX6_probe_96 rfl (lv_at hl 0 rfl) ?_
                      obtain ⟨r7, z20, h9, hf⟩ := bnd_open hf
                      refine m_callVi (As := []) (rest := [.int x14]) X hM hl mc_personMany (c_personMany h9) rfl (Nat.le_of_ble_eq_true rfl) (Nat.le_of_ble_eq_true rfl) rfl dX6_probe_97 (fun H locs hM => ?_)
                      refine g_icmp_ge (tgt := 130) G dX6_probe_100 rfl (fun c14 => ?_) (fun c14 => ?_)
                      · have hf := it_pos c14 hf
                        exact J130 _ _ _ _ hf hM ls (lv_sub hl [0, 1, 2, 3, 4, 5] rfl)
                      · have hf := it_neg c14 hf
                        refine g_aload_n G dX6_probe_103 rfl (lv_at hl 0 rfl) ?_
                        refine mg_a X hM mf_63 dX6_probe_104 ?_
                        refine g_iconst (v := 3) G dX6_probe_107 rfl ?_
                        refine g_iload G dX6_probe_108 (lv_at hl 6 rfl) ?_
                        refine g_imul G dX6_probe_110 ?_
                        refine g_aload_n G dX6_probe_111 rfl (lv_at hl 0 rfl) ?_
                        refine mg_a X hM mf_62 dX6_probe_112 ?_
                        refine g_iload G dX6_probe_115 (lv_at hl 6 rfl) ?_
                        obtain ⟨b6, hf⟩ := ck_open hf
                        refine m_iald X hM (mIs.of mf_62) b6 dX6_probe_117 ?_
                        refine g_iadd G dX6_probe_118 ?_
                        refine g_dup2_11 G dX6_probe_119 rfl rfl ?_
                        obtain ⟨b7, hf⟩ := ck_open hf
                        refine m_iald X hM (mIs.of mf_63) b7 dX6_probe_120 ?_
                        refine g_iconst (v := 1) G dX6_probe_121 rfl ?_
                        refine g_iadd G dX6_probe_122 ?_
                        obtain ⟨b8, hf⟩ := ck_open hf
                        obtain ⟨z21, hz21, hf⟩ := nm_open hf
                        refine m_iast X hM (mIs.of mf_63) b8 hz21 dX6_probe_123 (fun H locs hM => ?_)
                        refine g_iinc (v := x14 + 1) (lv' := [(6, .int (x14 + 1)), (0, .ref o), (1, .int a1), (2, .int a2), (3, .int a3), (4, .int (x11 + 1)), (5, .int x12)]) G dX6_probe_124 hl (k := 6) rfl rfl (Nat.le_of_ble_eq_true rfl) rfl (fun ls hl => ?_)
                        refine g_goto (tgt := 94) G dX6_probe_127 rfl ?_
                        exact ih94 _ _ _ _ hf hM ls (lv_sub hl [1, 2, 3, 4, 5, 6, 0] rfl)
                  exact L94 FU _ _ _ _ hf hM ls (lv_sub hl [2, 3, 4, 5, 1, 6, 0] rfl)
                · have hf := it_pos c13 hf
                  refine g_goto (tgt := 130) G dX6_probe_85 rfl ?_
                  exact J130 _ _ _ _ hf hM ls (lv_sub hl [0, 1, 2, 3, 4, 5] rfl)
          exact L65 FU _ _ _ _ _ hf hM ls (lv_sub hl [1, 2, 3, 4, 5, 0] rfl)
        have L37 : ∀ (n : Nat) (x15 : Int32) (z22 : MS) (H : Heap) (locs : List Loc), fx (m_probe_L37 k58) (fun _ _ => none) n x15 z22 = some (r, z') → MI D o ad H0 z22 H locs → ∀ ls : Array Slot, lv_has ls 9 [(0, .ref o), (1, .int a1), (2, .int a2), (3, .int a3), (4, .int 0), (5, .int x15)] → Z H locs 0 0 (F0 m 37 ls []) := by
          intro n
          induction n with
          | zero => intro x15 z22 H locs hf; exact absurd hf (by intro q; cases q)
          | succ n ih37 =>
            intro x15 z22 H locs hf hM ls hl
            rw [fx_s] at hf
            generalize fx (m_probe_L37 k58) (fun _ _ => none) n = s37 at hf ih37
            unfold m_probe_L37 at hf
            refine g_iload G dX6_probe_37 (lv_at hl 5 rfl) ?_
            refine g_bipush (v := 24) G dX6_probe_39 rfl ?_
            refine g_icmp_ge (tgt := 58) G dX6_probe_41 rfl (fun c15 => ?_) (fun c15 => ?_)
            · have hf := it_pos c15 hf
              exact K58 _ _ _ hf hM ls (lv_sub hl [0, 1, 2, 3, 4] rfl)
            · have hf := it_neg c15 hf
              refine g_aload_n G dX6_probe_44 rfl (lv_at hl 0 rfl) ?_
              refine mg_a X hM mf_63 dX6_probe_45 ?_
              refine g_iload G dX6_probe_48 (lv_at hl 5 rfl) ?_
              refine g_iconst (v := 0) G dX6_probe_50 rfl ?_
              obtain ⟨b9, hf⟩ := ck_open hf
              obtain ⟨z23, hz23, hf⟩ := nm_open hf
              refine m_iast X hM (mIs.of mf_63) b9 hz23 dX6_probe_51 (fun H locs hM => ?_)
              refine g_iinc (v := x15 + 1) (lv' := [(5, .int (x15 + 1)), (0, .ref o), (1, .int a1), (2, .int a2), (3, .int a3), (4, .int 0)]) G dX6_probe_52 hl (k := 5) rfl rfl (Nat.le_of_ble_eq_true rfl) rfl (fun ls hl => ?_)
              refine g_goto (tgt := 37) G dX6_probe_55 rfl ?_
              exact ih37 _ _ _ _ hf hM ls (lv_sub hl [1, 2, 3, 4, 5, 0] rfl)
        exact L37 FU _ _ _ _ hf hM ls (lv_sub hl [2, 3, 4, 5, 1, 0] rfl)
      · have hf := it_pos c3 hf
        refine g_iconst (v := (-1)) G dX6_probe_29 rfl ?_
        exact m_iret X hM hf dX6_probe_30
theorem mc_areParted : mcV yX6_areParted cX6_areParted 6 (some .boolean) 3 541 := ⟨lw_V q2365 q2367 qs133 q157 q2368, ⟨rfl, by decide +kernel, by decide +kernel, by decide +kernel⟩, Nat.le_of_ble_eq_true rfl⟩
noncomputable def m_areParted_L15 (a1 : Int32) (a2 : Int32) (a3 : Int32) (x1 : Int32) (k77 : MS → Option (Bool × MS)) (s15 : Int32 → MS → Option (Bool × MS)) (x2 : Int32) (z4 : MS) : Option (Bool × MS) :=
  bnd (m_personMany z4) fun r2 z5 =>
  if r2 ≤ x2 then
    k77 z5
  else
    jn (fun (z6 : MS) =>
      s15 (x2 + 1) z6) fun j71 =>
    if ((a1 >>> (x1 &&& 31)) &&& 1) = 1 then
      if ((a2 >>> (x2 &&& 31)) &&& 1) = 1 then
        bnd (m_rightOf x1 z5) fun r3 z7 =>
        bnd (m_bits (r3 &&& a3) z7) fun r4 z8 =>
        bnd (m_rightOf x2 z8) fun r5 z9 =>
        bnd (m_bits (r5 &&& a3) z9) fun r6 z10 =>
        if r6 < r4 then
          j71 z10
        else
          some (false, z10)
      else
        j71 z5
    else
      j71 z5
noncomputable def m_areParted_L3 (a1 : Int32) (a2 : Int32) (a3 : Int32) (s3 : Int32 → MS → Option (Bool × MS)) (x1 : Int32) (z1 : MS) : Option (Bool × MS) :=
  bnd (m_personMany z1) fun r1 z2 =>
  if r1 ≤ x1 then
    some (true, z2)
  else
    jn (fun (z3 : MS) =>
      s3 (x1 + 1) z3) fun k77 =>
    fx (m_areParted_L15 a1 a2 a3 x1 k77) (fun _ _ => none) FU 0 z2
noncomputable def m_areParted (a1 : Int32) (a2 : Int32) (a3 : Int32) (z : MS) : Option (Bool × MS) :=
  fx (m_areParted_L3 a1 a2 a3) (fun _ _ => none) FU 0 z
set_option maxHeartbeats 1000000 in
theorem c_areParted {l : Launch} {D : MD} {o : Nat} {ad : Nat → Nat} {a1 : Int32} {a2 : Int32} {a3 : Int32} {z z' : MS} {r : Bool} (hf : m_areParted a1 a2 a3 z = some (r, z')) : MMet l D o ad yX6_areParted cX6_areParted 6 (some .boolean) 2 [.ref o, .int a1, .int a2, .int a3] z z' (some (.int (bI r))) := by
  unfold m_areParted at hf
  refine m_head pnX6 rfl (Nat.le_of_ble_eq_true rfl) (fun m Z H0 ls X hM hl => ?_)
  have G := X.g
  have hl : lv_has ls 6 [(0, .ref o), (1, .int a1), (2, .int a2), (3, .int a3)] := hl
  refine g_iconst (v := 0) G dX6_areParted_0 rfl ?_
  refine g_istore (lv' := [(4, .int 0), (0, .ref o), (1, .int a1), (2, .int a2), (3, .int a3)]) G dX6_areParted_1 hl (Nat.le_of_ble_eq_true rfl) rfl (fun ls hl => ?_)
  have L3 : ∀ (n : Nat) (x1 : Int32) (z1 : MS) (H : Heap) (locs : List Loc), fx (m_areParted_L3 a1 a2 a3) (fun _ _ => none) n x1 z1 = some (r, z') → MI D o ad H0 z1 H locs → ∀ ls : Array Slot, lv_has ls 6 [(0, .ref o), (1, .int a1), (2, .int a2), (3, .int a3), (4, .int x1)] → Z H locs 0 0 (F0 m 3 ls []) := by
    intro n
    induction n with
    | zero => intro x1 z1 H locs hf; exact absurd hf (by intro q; cases q)
    | succ n ih3 =>
      intro x1 z1 H locs hf hM ls hl
      rw [fx_s] at hf
      generalize fx (m_areParted_L3 a1 a2 a3) (fun _ _ => none) n = s3 at hf ih3
      unfold m_areParted_L3 at hf
      refine g_iload G dX6_areParted_3 (lv_at hl 4 rfl) ?_
      refine g_aload_n G dX6_areParted_5 rfl (lv_at hl 0 rfl) ?_
      obtain ⟨r1, z2, h1, hf⟩ := bnd_open hf
      refine m_callVi (As := []) (rest := [.int x1]) X hM hl mc_personMany (c_personMany h1) rfl (Nat.le_of_ble_eq_true rfl) (Nat.le_of_ble_eq_true rfl) rfl dX6_areParted_6 (fun H locs hM => ?_)
      refine g_icmp_ge (tgt := 83) G dX6_areParted_9 rfl (fun c1 => ?_) (fun c1 => ?_)
      · have hf := it_pos c1 hf
        refine g_iconst (v := 1) G dX6_areParted_83 rfl ?_
        exact m_zret X hM hf dX6_areParted_84
      · have hf := it_neg c1 hf
        refine g_iconst (v := 0) G dX6_areParted_12 rfl ?_
        refine g_istore (lv' := [(5, .int 0), (0, .ref o), (1, .int a1), (2, .int a2), (3, .int a3), (4, .int x1)]) G dX6_areParted_13 hl (Nat.le_of_ble_eq_true rfl) rfl (fun ls hl => ?_)
        obtain ⟨k77, hk77, hf⟩ := jn_open hf
        have K77 : ∀ (z3 : MS) (H : Heap) (locs : List Loc), k77 z3 = some (r, z') → MI D o ad H0 z3 H locs → ∀ ls : Array Slot, lv_has ls 6 [(0, .ref o), (1, .int a1), (2, .int a2), (3, .int a3), (4, .int x1)] → Z H locs 0 0 (F0 m 77 ls []) := by
          intro z3 H locs hf hM ls hl
          rw [hk77] at hf
          refine g_iinc (v := x1 + 1) (lv' := [(4, .int (x1 + 1)), (0, .ref o), (1, .int a1), (2, .int a2), (3, .int a3)]) G dX6_areParted_77 hl (k := 4) rfl rfl (Nat.le_of_ble_eq_true rfl) rfl (fun ls hl => ?_)
          refine g_goto (tgt := 3) G dX6_areParted_80 rfl ?_
          exact ih3 _ _ _ _ hf hM ls (lv_sub hl [1, 2, 3, 4, 0] rfl)
        have L15 : ∀ (n : Nat) (x2 : Int32) (z4 : MS) (H : Heap) (locs : List Loc), fx (m_areParted_L15 a1 a2 a3 x1 k77) (fun _ _ => none) n x2 z4 = some (r, z') → MI D o ad H0 z4 H locs → ∀ ls : Array Slot, lv_has ls 6 [(0, .ref o), (1, .int a1), (2, .int a2), (3, .int a3), (4, .int x1), (5, .int x2)] → Z H locs 0 0 (F0 m 15 ls []) := by
          intro n
          induction n with
          | zero => intro x2 z4 H locs hf; exact absurd hf (by intro q; cases q)
          | succ n ih15 =>
            intro x2 z4 H locs hf hM ls hl
            rw [fx_s] at hf
            generalize fx (m_areParted_L15 a1 a2 a3 x1 k77) (fun _ _ => none) n = s15 at hf ih15
            unfold m_areParted_L15 at hf
            refine g_iload G dX6_areParted_15 (lv_at hl 5 rfl) ?_
            refine g_aload_n G dX6_areParted_17 rfl (lv_at hl 0 rfl) ?_
            obtain ⟨r2, z5, h2, hf⟩ := bnd_open hf
            refine m_callVi (As := []) (rest := [.int x2]) X hM hl mc_personMany (c_personMany h2) rfl (Nat.le_of_ble_eq_true rfl) (Nat.le_of_ble_eq_true rfl) rfl dX6_areParted_18 (fun H locs hM => ?_)
            refine g_icmp_ge (tgt := 77) G dX6_areParted_21 rfl (fun c2 => ?_) (fun c2 => ?_)
            · have hf := it_pos c2 hf
              exact K77 _ _ _ hf hM ls (lv_sub hl [0, 1, 2, 3, 4] rfl)
            · have hf := it_neg c2 hf
              refine g_iload_n G dX6_areParted_24 rfl (lv_at hl 1 rfl) ?_
              refine g_iload G dX6_areParted_25 (lv_at hl 4 rfl) ?_
              refine g_ishr G dX6_areParted_27 ?_
              refine g_iconst (v := 1) G dX6_areParted_28 rfl ?_
              refine g_iand G dX6_areParted_29 ?_
              refine g_iconst (v := 1) G dX6_areParted_30 rfl ?_
              obtain ⟨j71, hj71, hf⟩ := jn_open hf
              have J71 : ∀ (z6 : MS) (H : Heap) (locs : List Loc), j71 z6 = some (r, z') → MI D o ad H0 z6 H locs → ∀ ls : Array Slot, lv_has ls 6 [(0, .ref o), (1, .int a1), (2, .int a2), (3, .int a3), (4, .int x1), (5, .int x2)] → Z H locs 0 0 (F0 m 71 ls []) := by
                intro z6 H locs hf hM ls hl
                rw [hj71] at hf
                refine g_iinc (v := x2 + 1) (lv' := [(5, .int (x2 + 1)), (0, .ref o), (1, .int a1), (2, .int a2), (3, .int a3), (4, .int x1)]) G dX6_areParted_71 hl (k := 5) rfl rfl (Nat.le_of_ble_eq_true rfl) rfl (fun ls hl => ?_)
                refine g_goto (tgt := 15) G dX6_areParted_74 rfl ?_
                exact ih15 _ _ _ _ hf hM ls (lv_sub hl [1, 2, 3, 4, 5, 0] rfl)
              refine g_icmp_ne (tgt := 71) G dX6_areParted_31 rfl (fun c3 => ?_) (fun c3 => ?_)
              · have hf := it_neg c3 hf
                exact J71 _ _ _ hf hM ls (lv_sub hl [0, 1, 2, 3, 4, 5] rfl)
              · have hf := it_pos c3 hf
                refine g_iload_n G dX6_areParted_34 rfl (lv_at hl 2 rfl) ?_
                refine g_iload G dX6_areParted_35 (lv_at hl 5 rfl) ?_
                refine g_ishr G dX6_areParted_37 ?_
                refine g_iconst (v := 1) G dX6_areParted_38 rfl ?_
                refine g_iand G dX6_areParted_39 ?_
                refine g_iconst (v := 1) G dX6_areParted_40 rfl ?_
                refine g_icmp_ne (tgt := 71) G dX6_areParted_41 rfl (fun c4 => ?_) (fun c4 => ?_)
                · have hf := it_neg c4 hf
                  exact J71 _ _ _ hf hM ls (lv_sub hl [0, 1, 2, 3, 4, 5] rfl)
                · have hf := it_pos c4 hf
                  refine g_aload_n G dX6_areParted_44 rfl (lv_at hl 0 rfl) ?_
                  refine g_iload G dX6_areParted_45 (lv_at hl 4 rfl) ?_
                  obtain ⟨r3, z7, h3, hf⟩ := bnd_open hf
                  refine m_callVi (As := [.int x1]) (rest := []) X hM hl mc_rightOf (c_rightOf h3) rfl (Nat.le_of_ble_eq_true rfl) (Nat.le_of_ble_eq_true rfl) rfl dX6_areParted_47 (fun H locs hM => ?_)
                  refine g_iload_n G dX6_areParted_50 rfl (lv_at hl 3 rfl) ?_
                  refine g_iand G dX6_areParted_51 ?_
                  obtain ⟨r4, z8, h4, hf⟩ := bnd_open hf
                  refine m_callSi (As := [.int (r3 &&& a3)]) (rest := []) X hM hl mc_bits (c_bits h4) rfl (Nat.le_of_ble_eq_true rfl) (Nat.le_of_ble_eq_true rfl) rfl dX6_areParted_52 (fun H locs hM => ?_)
                  refine g_aload_n G dX6_areParted_55 rfl (lv_at hl 0 rfl) ?_
                  refine g_iload G dX6_areParted_56 (lv_at hl 5 rfl) ?_
                  obtain ⟨r5, z9, h5, hf⟩ := bnd_open hf
                  refine m_callVi (As := [.int x2]) (rest := [.int r4]) X hM hl mc_rightOf (c_rightOf h5) rfl (Nat.le_of_ble_eq_true rfl) (Nat.le_of_ble_eq_true rfl) rfl dX6_areParted_58 (fun H locs hM => ?_)
                  refine g_iload_n G dX6_areParted_61 rfl (lv_at hl 3 rfl) ?_
                  refine g_iand G dX6_areParted_62 ?_
                  obtain ⟨r6, z10, h6, hf⟩ := bnd_open hf
                  refine m_callSi (As := [.int (r5 &&& a3)]) (rest := [.int r4]) X hM hl mc_bits (c_bits h6) rfl (Nat.le_of_ble_eq_true rfl) (Nat.le_of_ble_eq_true rfl) rfl dX6_areParted_63 (fun H locs hM => ?_)
                  refine g_icmp_gt (tgt := 71) G dX6_areParted_66 rfl (fun c5 => ?_) (fun c5 => ?_)
                  · have hf := it_pos c5 hf
                    exact J71 _ _ _ hf hM ls (lv_sub hl [0, 1, 2, 3, 4, 5] rfl)
                  · have hf := it_neg c5 hf
                    refine g_iconst (v := 0) G dX6_areParted_69 rfl ?_
                    exact m_zret X hM hf dX6_areParted_70
        exact L15 FU _ _ _ _ hf hM ls (lv_sub hl [1, 2, 3, 4, 5, 0] rfl)
  exact L3 FU _ _ _ _ hf hM ls (lv_sub hl [1, 2, 3, 4, 0] rfl)
noncomputable def m_part_L45 (a1 : Int32) (a2 : Int32) (s45 : Int32 → Int32 → MS → Option (Int32 × MS)) (x1 : Int32) (x2 : Int32) (z4 : MS) : Option (Int32 × MS) :=
  bnd (m_factMany z4) fun r4 z5 =>
  if (1 <<< (r4 &&& 31)) ≤ x2 then
    some (x1, z5)
  else
    jn (fun (x3 : Int32) (z6 : MS) =>
      s45 x3 (x2 + 1) z6) fun j90 =>
    jn (fun (z7 : MS) =>
      bnd (m_areParted a1 a2 x2 z7) fun r5 z8 =>
      if (bI r5) = 0 then
        j90 x1 z8
      else
        j90 x2 z8) fun j75 =>
    if x1 = (-1) then
      j75 z5
    else
      bnd (m_bits x2 z5) fun r6 z9 =>
      bnd (m_bits x1 z9) fun r7 z10 =>
      if r7 ≤ r6 then
        j90 x1 z10
      else
        j75 z10
noncomputable def m_part (a1 : Int32) (a2 : Int32) (z : MS) : Option (Int32 × MS) :=
  bnd (m_personMany z) fun r1 z1 =>
  bnd (m_isIn (Int32.toInt64 a1) 0 (Int32.toInt64 ((1 <<< (r1 &&& 31)) - 1)) z1) fun r2 z2 =>
  if (bI r2) = 0 then
    some ((-1), z2)
  else
    bnd (m_isIn (Int32.toInt64 a2) 0 (Int32.toInt64 ((1 <<< (r1 &&& 31)) - 1)) z2) fun r3 z3 =>
    if (bI r3) = 0 then
      some ((-1), z3)
    else
      if (a1 &&& a2) = 0 then
        fx (m_part_L45 a1 a2) (fun _ _ _ => none) FU (-1) 0 z3
      else
        some ((-1), z3)
set_option maxHeartbeats 1000000 in
theorem c_part {l : Launch} {D : MD} {o : Nat} {ad : Nat → Nat} {a1 : Int32} {a2 : Int32} {z z' : MS} {r : Int32} (hf : m_part a1 a2 z = some (r, z')) : MMet l D o ad yX6_part cX6_part 6 (some .int) 3 [.ref o, .int a1, .int a2] z z' (some (.int r)) := by
  unfold m_part at hf
  refine m_head pnX6 rfl (Nat.le_of_ble_eq_true rfl) (fun m Z H0 ls X hM hl => ?_)
  have G := X.g
  have hl : lv_has ls 6 [(0, .ref o), (1, .int a1), (2, .int a2)] := hl
  refine g_iconst (v := 1) G dX6_part_0 rfl ?_
  refine g_aload_n G dX6_part_1 rfl (lv_at hl 0 rfl) ?_
  obtain ⟨r1, z1, h1, hf⟩ := bnd_open hf
  refine m_callVi (As := []) (rest := [.int 1]) X hM hl mc_personMany (c_personMany h1) rfl (Nat.le_of_ble_eq_true rfl) (Nat.le_of_ble_eq_true rfl) rfl dX6_part_2 (fun H locs hM => ?_)
  refine g_ishl G dX6_part_5 ?_
  refine g_iconst (v := 1) G dX6_part_6 rfl ?_
  refine g_isub G dX6_part_7 ?_
  refine g_istore_n (lv' := [(3, .int ((1 <<< (r1 &&& 31)) - 1)), (0, .ref o), (1, .int a1), (2, .int a2)]) G dX6_part_8 rfl hl (Nat.le_of_ble_eq_true rfl) rfl (fun ls hl => ?_)
  refine g_iload_n G dX6_part_9 rfl (lv_at hl 2 rfl) ?_
  refine g_i2l (v := Int32.toInt64 a1) G dX6_part_10 rfl ?_
  refine g_lconst (v := 0) G dX6_part_11 rfl ?_
  refine g_iload_n G dX6_part_12 rfl (lv_at hl 0 rfl) ?_
  refine g_i2l (v := Int32.toInt64 ((1 <<< (r1 &&& 31)) - 1)) G dX6_part_13 rfl ?_
  obtain ⟨r2, z2, h2, hf⟩ := bnd_open hf
  refine m_callSi (As := [.long (Int32.toInt64 a1), .long 0, .long (Int32.toInt64 ((1 <<< (r1 &&& 31)) - 1))]) (rest := []) X hM hl mc_isIn (c_isIn h2) rfl (Nat.le_of_ble_eq_true rfl) (Nat.le_of_ble_eq_true rfl) rfl dX6_part_14 (fun H locs hM => ?_)
  refine g_if_eq (tgt := 37) G dX6_part_17 rfl (fun c1 => ?_) (fun c1 => ?_)
  · have hf := it_pos c1 hf
    refine g_iconst (v := (-1)) G dX6_part_37 rfl ?_
    exact m_iret X hM hf dX6_part_38
  · have hf := it_neg c1 hf
    refine g_iload_n G dX6_part_20 rfl (lv_at hl 3 rfl) ?_
    refine g_i2l (v := Int32.toInt64 a2) G dX6_part_21 rfl ?_
    refine g_lconst (v := 0) G dX6_part_22 rfl ?_
    refine g_iload_n G dX6_part_23 rfl (lv_at hl 0 rfl) ?_
    refine g_i2l (v := Int32.toInt64 ((1 <<< (r1 &&& 31)) - 1)) G dX6_part_24 rfl ?_
    obtain ⟨r3, z3, h3, hf⟩ := bnd_open hf
    refine m_callSi (As := [.long (Int32.toInt64 a2), .long 0, .long (Int32.toInt64 ((1 <<< (r1 &&& 31)) - 1))]) (rest := []) X hM hl mc_isIn (c_isIn h3) rfl (Nat.le_of_ble_eq_true rfl) (Nat.le_of_ble_eq_true rfl) rfl dX6_part_25 (fun H locs hM => ?_)
    refine g_if_eq (tgt := 37) G dX6_part_28 rfl (fun c2 => ?_) (fun c2 => ?_)
    · have hf := it_pos c2 hf
      refine g_iconst (v := (-1)) G dX6_part_37 rfl ?_
      exact m_iret X hM hf dX6_part_38
    · have hf := it_neg c2 hf
      refine g_iload_n G dX6_part_31 rfl (lv_at hl 2 rfl) ?_
      refine g_iload_n G dX6_part_32 rfl (lv_at hl 3 rfl) ?_
      refine g_iand G dX6_part_33 ?_
      refine g_if_eq (tgt := 39) G dX6_part_34 rfl (fun c3 => ?_) (fun c3 => ?_)
      · have hf := it_pos c3 hf
        refine g_iconst (v := (-1)) G dX6_part_39 rfl ?_
        refine g_istore (lv' := [(4, .int (-1)), (3, .int ((1 <<< (r1 &&& 31)) - 1)), (0, .ref o), (1, .int a1), (2, .int a2)]) G dX6_part_40 hl (Nat.le_of_ble_eq_true rfl) rfl (fun ls hl => ?_)
        refine g_iconst (v := 0) G dX6_part_42 rfl ?_
        refine g_istore (lv' := [(5, .int 0), (4, .int (-1)), (3, .int ((1 <<< (r1 &&& 31)) - 1)), (0, .ref o), (1, .int a1), (2, .int a2)]) G dX6_part_43 hl (Nat.le_of_ble_eq_true rfl) rfl (fun ls hl => ?_)
        have L45 : ∀ (n : Nat) (x1 : Int32) (x2 : Int32) (z4 : MS) (H : Heap) (locs : List Loc), fx (m_part_L45 a1 a2) (fun _ _ _ => none) n x1 x2 z4 = some (r, z') → MI D o ad H0 z4 H locs → ∀ ls : Array Slot, lv_has ls 6 [(0, .ref o), (1, .int a1), (2, .int a2), (4, .int x1), (5, .int x2)] → Z H locs 0 0 (F0 m 45 ls []) := by
          intro n
          induction n with
          | zero => intro x1 x2 z4 H locs hf; exact absurd hf (by intro q; cases q)
          | succ n ih45 =>
            intro x1 x2 z4 H locs hf hM ls hl
            rw [fx_s] at hf
            generalize fx (m_part_L45 a1 a2) (fun _ _ _ => none) n = s45 at hf ih45
            unfold m_part_L45 at hf
            refine g_iload G dX6_part_45 (lv_at hl 4 rfl) ?_
            refine g_iconst (v := 1) G dX6_part_47 rfl ?_
            refine g_aload_n G dX6_part_48 rfl (lv_at hl 0 rfl) ?_
            obtain ⟨r4, z5, h4, hf⟩ := bnd_open hf
            refine m_callVi (As := []) (rest := [.int 1, .int x2]) X hM hl mc_factMany (c_factMany h4) rfl (Nat.le_of_ble_eq_true rfl) (Nat.le_of_ble_eq_true rfl) rfl dX6_part_49 (fun H locs hM => ?_)
            refine g_ishl G dX6_part_52 ?_
            refine g_icmp_ge (tgt := 96) G dX6_part_53 rfl (fun c4 => ?_) (fun c4 => ?_)
            · have hf := it_pos c4 hf
              refine g_iload G dX6_part_96 (lv_at hl 3 rfl) ?_
              exact m_iret X hM hf dX6_part_98
            · have hf := it_neg c4 hf
              refine g_iload G dX6_part_56 (lv_at hl 3 rfl) ?_
              refine g_iconst (v := (-1)) G dX6_part_58 rfl ?_
              obtain ⟨j90, hj90, hf⟩ := jn_open hf
              have J90 : ∀ (x3 : Int32) (z6 : MS) (H : Heap) (locs : List Loc), j90 x3 z6 = some (r, z') → MI D o ad H0 z6 H locs → ∀ ls : Array Slot, lv_has ls 6 [(0, .ref o), (1, .int a1), (2, .int a2), (4, .int x3), (5, .int x2)] → Z H locs 0 0 (F0 m 90 ls []) := by
                intro x3 z6 H locs hf hM ls hl
                rw [hj90] at hf
                refine g_iinc (v := x2 + 1) (lv' := [(5, .int (x2 + 1)), (0, .ref o), (1, .int a1), (2, .int a2), (4, .int x3)]) G dX6_part_90 hl (k := 4) rfl rfl (Nat.le_of_ble_eq_true rfl) rfl (fun ls hl => ?_)
                refine g_goto (tgt := 45) G dX6_part_93 rfl ?_
                exact ih45 _ _ _ _ _ hf hM ls (lv_sub hl [1, 2, 3, 4, 0] rfl)
              obtain ⟨j75, hj75, hf⟩ := jn_open hf
              have J75 : ∀ (z7 : MS) (H : Heap) (locs : List Loc), j75 z7 = some (r, z') → MI D o ad H0 z7 H locs → ∀ ls : Array Slot, lv_has ls 6 [(0, .ref o), (1, .int a1), (2, .int a2), (4, .int x1), (5, .int x2)] → Z H locs 0 0 (F0 m 75 ls []) := by
                intro z7 H locs hf hM ls hl
                rw [hj75] at hf
                refine g_aload_n G dX6_part_75 rfl (lv_at hl 0 rfl) ?_
                refine g_iload_n G dX6_part_76 rfl (lv_at hl 1 rfl) ?_
                refine g_iload_n G dX6_part_77 rfl (lv_at hl 2 rfl) ?_
                refine g_iload G dX6_part_78 (lv_at hl 4 rfl) ?_
                obtain ⟨r5, z8, h5, hf⟩ := bnd_open hf
                refine m_callVi (As := [.int a1, .int a2, .int x2]) (rest := []) X hM hl mc_areParted (c_areParted h5) rfl (Nat.le_of_ble_eq_true rfl) (Nat.le_of_ble_eq_true rfl) rfl dX6_part_80 (fun H locs hM => ?_)
                refine g_if_eq (tgt := 90) G dX6_part_83 rfl (fun c5 => ?_) (fun c5 => ?_)
                · have hf := it_pos c5 hf
                  exact J90 _ _ _ _ hf hM ls (lv_sub hl [0, 1, 2, 3, 4] rfl)
                · have hf := it_neg c5 hf
                  refine g_iload G dX6_part_86 (lv_at hl 4 rfl) ?_
                  refine g_istore (lv' := [(4, .int x2), (0, .ref o), (1, .int a1), (2, .int a2), (5, .int x2)]) G dX6_part_88 hl (Nat.le_of_ble_eq_true rfl) rfl (fun ls hl => ?_)
                  exact J90 _ _ _ _ hf hM ls (lv_sub hl [1, 2, 3, 0, 4] rfl)
              refine g_icmp_eq (tgt := 75) G dX6_part_59 rfl (fun c6 => ?_) (fun c6 => ?_)
              · have hf := it_pos c6 hf
                exact J75 _ _ _ hf hM ls (lv_sub hl [0, 1, 2, 3, 4] rfl)
              · have hf := it_neg c6 hf
                refine g_iload G dX6_part_62 (lv_at hl 4 rfl) ?_
                obtain ⟨r6, z9, h6, hf⟩ := bnd_open hf
                refine m_callSi (As := [.int x2]) (rest := []) X hM hl mc_bits (c_bits h6) rfl (Nat.le_of_ble_eq_true rfl) (Nat.le_of_ble_eq_true rfl) rfl dX6_part_64 (fun H locs hM => ?_)
                refine g_iload G dX6_part_67 (lv_at hl 3 rfl) ?_
                obtain ⟨r7, z10, h7, hf⟩ := bnd_open hf
                refine m_callSi (As := [.int x1]) (rest := [.int r6]) X hM hl mc_bits (c_bits h7) rfl (Nat.le_of_ble_eq_true rfl) (Nat.le_of_ble_eq_true rfl) rfl dX6_part_69 (fun H locs hM => ?_)
                refine g_icmp_ge (tgt := 90) G dX6_part_72 rfl (fun c7 => ?_) (fun c7 => ?_)
                · have hf := it_pos c7 hf
                  exact J90 _ _ _ _ hf hM ls (lv_sub hl [0, 1, 2, 3, 4] rfl)
                · have hf := it_neg c7 hf
                  exact J75 _ _ _ hf hM ls (lv_sub hl [0, 1, 2, 3, 4] rfl)
        exact L45 FU _ _ _ _ _ hf hM ls (lv_sub hl [3, 4, 5, 1, 0] rfl)
      · have hf := it_neg c3 hf
        refine g_iconst (v := (-1)) G dX6_part_37 rfl ?_
        exact m_iret X hM hf dX6_part_38
theorem mc_keeps : mcV yX6_keeps cX6_keeps 2 (none) 0 547 := ⟨lw_V q2377 q2379 qs134 q157 q2380, ⟨rfl, by decide +kernel, by decide +kernel, by decide +kernel⟩, Nat.le_of_ble_eq_true rfl⟩
noncomputable def m_keeps_L15 (k49 : MS → Option (MS)) (s15 : Int32 → MS → Option (MS)) (x1 : Int32) (z4 : MS) : Option (MS) :=
  if 132 ≤ x1 then
    k49 z4
  else
    ck (inb x1 (mN 53)) <|
    ck (inb ((132 * (mI z4 66)) + x1) (mN 64)) <|
    nm (wA z4 64 (Int32.toNatClampNeg ((132 * (mI z4 66)) + x1)) (mA z4 53 (Int32.toNatClampNeg x1))) fun z5 =>
    s15 (x1 + 1) z5
noncomputable def m_keeps (z : MS) : Option (MS) :=
  nm (wI z 66 (((mI z 66) + 1) - ((mI z 66) + 1) / 20 * 20)) fun z1 =>
  jn (fun (z2 : MS) =>
    if 20 ≤ (mI z2 65) then
      some z2
    else
      nm (wI z2 65 ((mI z2 65) + 1)) fun z3 =>
      some z3) fun k49 =>
  fx (m_keeps_L15 k49) (fun _ _ => none) FU 0 z1
set_option maxHeartbeats 1000000 in
theorem c_keeps {l : Launch} {D : MD} {o : Nat} {ad : Nat → Nat} {z z' : MS} (hf : m_keeps z = some z') : MMet l D o ad yX6_keeps cX6_keeps 2 (none) 1 [.ref o] z z' (none) := by
  unfold m_keeps at hf
  refine m_head pnX6 rfl (Nat.le_of_ble_eq_true rfl) (fun m Z H0 ls X hM hl => ?_)
  have G := X.g
  have hl : lv_has ls 2 [(0, .ref o)] := hl
  refine g_aload_n G dX6_keeps_0 rfl (lv_at hl 0 rfl) ?_
  refine g_aload_n G dX6_keeps_1 rfl (lv_at hl 0 rfl) ?_
  refine mg_i X hM mf_66 dX6_keeps_2 ?_
  refine g_iconst (v := 1) G dX6_keeps_5 rfl ?_
  refine g_iadd G dX6_keeps_6 ?_
  refine g_bipush (v := 20) G dX6_keeps_7 rfl ?_
  refine g_irem G dX6_keeps_9 (by decide) ?_
  obtain ⟨z1, hz1, hf⟩ := nm_open hf
  refine mp_i X hM mf_66 hz1 dX6_keeps_10 (fun H locs hM => ?_)
  refine g_iconst (v := 0) G dX6_keeps_13 rfl ?_
  refine g_istore_n (lv' := [(1, .int 0), (0, .ref o)]) G dX6_keeps_14 rfl hl (Nat.le_of_ble_eq_true rfl) rfl (fun ls hl => ?_)
  obtain ⟨k49, hk49, hf⟩ := jn_open hf
  have K49 : ∀ (z2 : MS) (H : Heap) (locs : List Loc), k49 z2 = some z' → MI D o ad H0 z2 H locs → ∀ ls : Array Slot, lv_has ls 2 [(0, .ref o)] → Z H locs 0 0 (F0 m 49 ls []) := by
    intro z2 H locs hf hM ls hl
    rw [hk49] at hf
    refine g_aload_n G dX6_keeps_49 rfl (lv_at hl 0 rfl) ?_
    refine mg_i X hM mf_65 dX6_keeps_50 ?_
    refine g_bipush (v := 20) G dX6_keeps_53 rfl ?_
    refine g_icmp_ge (tgt := 68) G dX6_keeps_55 rfl (fun c1 => ?_) (fun c1 => ?_)
    · have hf := it_pos c1 hf
      exact m_vret X hM hf dX6_keeps_68
    · have hf := it_neg c1 hf
      refine g_aload_n G dX6_keeps_58 rfl (lv_at hl 0 rfl) ?_
      refine g_dup G dX6_keeps_59 rfl ?_
      refine mg_i X hM mf_65 dX6_keeps_60 ?_
      refine g_iconst (v := 1) G dX6_keeps_63 rfl ?_
      refine g_iadd G dX6_keeps_64 ?_
      obtain ⟨z3, hz3, hf⟩ := nm_open hf
      refine mp_i X hM mf_65 hz3 dX6_keeps_65 (fun H locs hM => ?_)
      exact m_vret X hM hf dX6_keeps_68
  have L15 : ∀ (n : Nat) (x1 : Int32) (z4 : MS) (H : Heap) (locs : List Loc), fx (m_keeps_L15 k49) (fun _ _ => none) n x1 z4 = some z' → MI D o ad H0 z4 H locs → ∀ ls : Array Slot, lv_has ls 2 [(0, .ref o), (1, .int x1)] → Z H locs 0 0 (F0 m 15 ls []) := by
    intro n
    induction n with
    | zero => intro x1 z4 H locs hf; exact absurd hf (by intro q; cases q)
    | succ n ih15 =>
      intro x1 z4 H locs hf hM ls hl
      rw [fx_s] at hf
      generalize fx (m_keeps_L15 k49) (fun _ _ => none) n = s15 at hf ih15
      unfold m_keeps_L15 at hf
      refine g_iload_n G dX6_keeps_15 rfl (lv_at hl 1 rfl) ?_
      refine g_sipush (v := 132) G dX6_keeps_16 rfl ?_
      refine g_icmp_ge (tgt := 49) G dX6_keeps_19 rfl (fun c2 => ?_) (fun c2 => ?_)
      · have hf := it_pos c2 hf
        exact K49 _ _ _ hf hM ls (lv_sub hl [0] rfl)
      · have hf := it_neg c2 hf
        refine g_aload_n G dX6_keeps_22 rfl (lv_at hl 0 rfl) ?_
        refine mg_a X hM mf_64 dX6_keeps_23 ?_
        refine g_sipush (v := 132) G dX6_keeps_26 rfl ?_
        refine g_aload_n G dX6_keeps_29 rfl (lv_at hl 0 rfl) ?_
        refine mg_i X hM mf_66 dX6_keeps_30 ?_
        refine g_imul G dX6_keeps_33 ?_
        refine g_iload_n G dX6_keeps_34 rfl (lv_at hl 1 rfl) ?_
        refine g_iadd G dX6_keeps_35 ?_
        refine g_aload_n G dX6_keeps_36 rfl (lv_at hl 0 rfl) ?_
        refine mg_a X hM mf_53 dX6_keeps_37 ?_
        refine g_iload_n G dX6_keeps_40 rfl (lv_at hl 1 rfl) ?_
        obtain ⟨b1, hf⟩ := ck_open hf
        refine m_iald X hM (mIs.of mf_53) b1 dX6_keeps_41 ?_
        obtain ⟨b2, hf⟩ := ck_open hf
        obtain ⟨z5, hz5, hf⟩ := nm_open hf
        refine m_iast X hM (mIs.of mf_64) b2 hz5 dX6_keeps_42 (fun H locs hM => ?_)
        refine g_iinc (v := x1 + 1) (lv' := [(1, .int (x1 + 1)), (0, .ref o)]) G dX6_keeps_43 hl (k := 1) rfl rfl (Nat.le_of_ble_eq_true rfl) rfl (fun ls hl => ?_)
        refine g_goto (tgt := 15) G dX6_keeps_46 rfl ?_
        exact ih15 _ _ _ _ hf hM ls (lv_sub hl [1, 0] rfl)
  exact L15 FU _ _ _ _ hf hM ls (lv_sub hl [1, 0] rfl)
noncomputable def m_undo_L21 (k55 : MS → Option (Bool × MS)) (s21 : Int32 → MS → Option (Bool × MS)) (x1 : Int32) (z4 : MS) : Option (Bool × MS) :=
  if 132 ≤ x1 then
    k55 z4
  else
    ck (inb ((132 * (mI z4 66)) + x1) (mN 64)) <|
    ck (inb x1 (mN 53)) <|
    nm (wA z4 53 (Int32.toNatClampNeg x1) (mA z4 64 (Int32.toNatClampNeg ((132 * (mI z4 66)) + x1)))) fun z5 =>
    s21 (x1 + 1) z5
noncomputable def m_undo (z : MS) : Option (Bool × MS) :=
  if (mI z 65) = 0 then
    nm (wA z 9 (Int32.toNatClampNeg 4) ((mA z 9 (Int32.toNatClampNeg 4)) + 1)) fun z6 =>
    some (false, z6)
  else
    jn (fun (z1 : MS) =>
      nm (wI z1 66 ((((mI z1 66) + 20) - 1) - (((mI z1 66) + 20) - 1) / 20 * 20)) fun z2 =>
      nm (wI z2 65 ((mI z2 65) - 1)) fun z3 =>
      some (true, z3)) fun k55 =>
    fx (m_undo_L21 k55) (fun _ _ => none) FU 0 z
set_option maxHeartbeats 1000000 in
theorem c_undo {l : Launch} {D : MD} {o : Nat} {ad : Nat → Nat} {z z' : MS} {r : Bool} (hf : m_undo z = some (r, z')) : MMet l D o ad yX6_undo cX6_undo 2 (some .boolean) 1 [.ref o] z z' (some (.int (bI r))) := by
  unfold m_undo at hf
  refine m_head pnX6 rfl (Nat.le_of_ble_eq_true rfl) (fun m Z H0 ls X hM hl => ?_)
  have G := X.g
  have hl : lv_has ls 2 [(0, .ref o)] := hl
  refine g_aload_n G dX6_undo_0 rfl (lv_at hl 0 rfl) ?_
  refine mg_i X hM mf_65 dX6_undo_1 ?_
  refine g_if_ne (tgt := 19) G dX6_undo_4 rfl (fun c1 => ?_) (fun c1 => ?_)
  · have hf := it_neg c1 hf
    refine g_iconst (v := 0) G dX6_undo_19 rfl ?_
    refine g_istore_n (lv' := [(1, .int 0), (0, .ref o)]) G dX6_undo_20 rfl hl (Nat.le_of_ble_eq_true rfl) rfl (fun ls hl => ?_)
    obtain ⟨k55, hk55, hf⟩ := jn_open hf
    have K55 : ∀ (z1 : MS) (H : Heap) (locs : List Loc), k55 z1 = some (r, z') → MI D o ad H0 z1 H locs → ∀ ls : Array Slot, lv_has ls 2 [(0, .ref o)] → Z H locs 0 0 (F0 m 55 ls []) := by
      intro z1 H locs hf hM ls hl
      rw [hk55] at hf
      refine g_aload_n G dX6_undo_55 rfl (lv_at hl 0 rfl) ?_
      refine g_aload_n G dX6_undo_56 rfl (lv_at hl 0 rfl) ?_
      refine mg_i X hM mf_66 dX6_undo_57 ?_
      refine g_bipush (v := 20) G dX6_undo_60 rfl ?_
      refine g_iadd G dX6_undo_62 ?_
      refine g_iconst (v := 1) G dX6_undo_63 rfl ?_
      refine g_isub G dX6_undo_64 ?_
      refine g_bipush (v := 20) G dX6_undo_65 rfl ?_
      refine g_irem G dX6_undo_67 (by decide) ?_
      obtain ⟨z2, hz2, hf⟩ := nm_open hf
      refine mp_i X hM mf_66 hz2 dX6_undo_68 (fun H locs hM => ?_)
      refine g_aload_n G dX6_undo_71 rfl (lv_at hl 0 rfl) ?_
      refine g_dup G dX6_undo_72 rfl ?_
      refine mg_i X hM mf_65 dX6_undo_73 ?_
      refine g_iconst (v := 1) G dX6_undo_76 rfl ?_
      refine g_isub G dX6_undo_77 ?_
      obtain ⟨z3, hz3, hf⟩ := nm_open hf
      refine mp_i X hM mf_65 hz3 dX6_undo_78 (fun H locs hM => ?_)
      refine g_iconst (v := 1) G dX6_undo_81 rfl ?_
      exact m_zret X hM hf dX6_undo_82
    have L21 : ∀ (n : Nat) (x1 : Int32) (z4 : MS) (H : Heap) (locs : List Loc), fx (m_undo_L21 k55) (fun _ _ => none) n x1 z4 = some (r, z') → MI D o ad H0 z4 H locs → ∀ ls : Array Slot, lv_has ls 2 [(0, .ref o), (1, .int x1)] → Z H locs 0 0 (F0 m 21 ls []) := by
      intro n
      induction n with
      | zero => intro x1 z4 H locs hf; exact absurd hf (by intro q; cases q)
      | succ n ih21 =>
        intro x1 z4 H locs hf hM ls hl
        rw [fx_s] at hf
        generalize fx (m_undo_L21 k55) (fun _ _ => none) n = s21 at hf ih21
        unfold m_undo_L21 at hf
        refine g_iload_n G dX6_undo_21 rfl (lv_at hl 1 rfl) ?_
        refine g_sipush (v := 132) G dX6_undo_22 rfl ?_
        refine g_icmp_ge (tgt := 55) G dX6_undo_25 rfl (fun c2 => ?_) (fun c2 => ?_)
        · have hf := it_pos c2 hf
          exact K55 _ _ _ hf hM ls (lv_sub hl [0] rfl)
        · have hf := it_neg c2 hf
          refine g_aload_n G dX6_undo_28 rfl (lv_at hl 0 rfl) ?_
          refine mg_a X hM mf_53 dX6_undo_29 ?_
          refine g_iload_n G dX6_undo_32 rfl (lv_at hl 1 rfl) ?_
          refine g_aload_n G dX6_undo_33 rfl (lv_at hl 0 rfl) ?_
          refine mg_a X hM mf_64 dX6_undo_34 ?_
          refine g_sipush (v := 132) G dX6_undo_37 rfl ?_
          refine g_aload_n G dX6_undo_40 rfl (lv_at hl 0 rfl) ?_
          refine mg_i X hM mf_66 dX6_undo_41 ?_
          refine g_imul G dX6_undo_44 ?_
          refine g_iload_n G dX6_undo_45 rfl (lv_at hl 1 rfl) ?_
          refine g_iadd G dX6_undo_46 ?_
          obtain ⟨b1, hf⟩ := ck_open hf
          refine m_iald X hM (mIs.of mf_64) b1 dX6_undo_47 ?_
          obtain ⟨b2, hf⟩ := ck_open hf
          obtain ⟨z5, hz5, hf⟩ := nm_open hf
          refine m_iast X hM (mIs.of mf_53) b2 hz5 dX6_undo_48 (fun H locs hM => ?_)
          refine g_iinc (v := x1 + 1) (lv' := [(1, .int (x1 + 1)), (0, .ref o)]) G dX6_undo_49 hl (k := 1) rfl rfl (Nat.le_of_ble_eq_true rfl) rfl (fun ls hl => ?_)
          refine g_goto (tgt := 21) G dX6_undo_52 rfl ?_
          exact ih21 _ _ _ _ hf hM ls (lv_sub hl [1, 0] rfl)
    exact L21 FU _ _ _ _ hf hM ls (lv_sub hl [1, 0] rfl)
  · have hf := it_pos c1 hf
    refine g_aload_n G dX6_undo_7 rfl (lv_at hl 0 rfl) ?_
    refine mg_a X hM mf_9 dX6_undo_8 ?_
    refine g_iconst (v := 4) G dX6_undo_11 rfl ?_
    refine g_dup2_11 G dX6_undo_12 rfl rfl ?_
    refine m_iald X hM (mIs.of mf_9) (by decide) dX6_undo_13 ?_
    refine g_iconst (v := 1) G dX6_undo_14 rfl ?_
    refine g_iadd G dX6_undo_15 ?_
    obtain ⟨z6, hz6, hf⟩ := nm_open hf
    refine m_iast X hM (mIs.of mf_9) (by decide) hz6 dX6_undo_16 (fun H locs hM => ?_)
    refine g_iconst (v := 0) G dX6_undo_17 rfl ?_
    exact m_zret X hM hf dX6_undo_18
noncomputable def m_teach (a1 : Int32) (a2 : Int32) (z : MS) : Option (Bool × MS) :=
  bnd (m_isPerson a1 z) fun r1 z1 =>
  jn (fun (z2 : MS) =>
    nm (wA z2 9 (Int32.toNatClampNeg 2) ((mA z2 9 (Int32.toNatClampNeg 2)) + 1)) fun z3 =>
    some (false, z3)) fun j39 =>
  if (bI r1) = 0 then
    j39 z1
  else
    jn (fun (z4 : MS) =>
      bnd (m_masterOf a1 z4) fun r2 z5 =>
      if r2 = a2 then
        j39 z5
      else
        bnv (m_keeps z5) fun z6 =>
        ck (inb (1 + (5 * a1)) (mN 53)) <|
        nm (wA z6 53 (Int32.toNatClampNeg (1 + (5 * a1))) a2) fun z7 =>
        some (true, z7)) fun j30 =>
    if a2 = (-1) then
      j30 z1
    else
      bnd (m_isPerson a2 z1) fun r3 z8 =>
      if (bI r3) = 0 then
        j39 z8
      else
        bnd (m_isTaughtBy a2 a1 z8) fun r4 z9 =>
        if (bI r4) = 0 then
          j30 z9
        else
          j39 z9
set_option maxHeartbeats 1000000 in
theorem c_teach {l : Launch} {D : MD} {o : Nat} {ad : Nat → Nat} {a1 : Int32} {a2 : Int32} {z z' : MS} {r : Bool} (hf : m_teach a1 a2 z = some (r, z')) : MMet l D o ad yX6_teach cX6_teach 3 (some .boolean) 3 [.ref o, .int a1, .int a2] z z' (some (.int (bI r))) := by
  unfold m_teach at hf
  refine m_head pnX6 rfl (Nat.le_of_ble_eq_true rfl) (fun m Z H0 ls X hM hl => ?_)
  have G := X.g
  have hl : lv_has ls 3 [(0, .ref o), (1, .int a1), (2, .int a2)] := hl
  refine g_aload_n G dX6_teach_0 rfl (lv_at hl 0 rfl) ?_
  refine g_iload_n G dX6_teach_1 rfl (lv_at hl 1 rfl) ?_
  obtain ⟨r1, z1, h1, hf⟩ := bnd_open hf
  refine m_callVi (As := [.int a1]) (rest := []) X hM hl mc_isPerson (c_isPerson h1) rfl (Nat.le_of_ble_eq_true rfl) (Nat.le_of_ble_eq_true rfl) rfl dX6_teach_2 (fun H locs hM => ?_)
  obtain ⟨j39, hj39, hf⟩ := jn_open hf
  have J39 : ∀ (z2 : MS) (H : Heap) (locs : List Loc), j39 z2 = some (r, z') → MI D o ad H0 z2 H locs → ∀ ls : Array Slot, lv_has ls 3 [(0, .ref o)] → Z H locs 0 0 (F0 m 39 ls []) := by
    intro z2 H locs hf hM ls hl
    rw [hj39] at hf
    refine g_aload_n G dX6_teach_39 rfl (lv_at hl 0 rfl) ?_
    refine mg_a X hM mf_9 dX6_teach_40 ?_
    refine g_iconst (v := 2) G dX6_teach_43 rfl ?_
    refine g_dup2_11 G dX6_teach_44 rfl rfl ?_
    refine m_iald X hM (mIs.of mf_9) (by decide) dX6_teach_45 ?_
    refine g_iconst (v := 1) G dX6_teach_46 rfl ?_
    refine g_iadd G dX6_teach_47 ?_
    obtain ⟨z3, hz3, hf⟩ := nm_open hf
    refine m_iast X hM (mIs.of mf_9) (by decide) hz3 dX6_teach_48 (fun H locs hM => ?_)
    refine g_iconst (v := 0) G dX6_teach_49 rfl ?_
    exact m_zret X hM hf dX6_teach_50
  refine g_if_eq (tgt := 39) G dX6_teach_5 rfl (fun c1 => ?_) (fun c1 => ?_)
  · have hf := it_pos c1 hf
    exact J39 _ _ _ hf hM ls (lv_sub hl [0] rfl)
  · have hf := it_neg c1 hf
    refine g_iload_n G dX6_teach_8 rfl (lv_at hl 2 rfl) ?_
    refine g_iconst (v := (-1)) G dX6_teach_9 rfl ?_
    obtain ⟨j30, hj30, hf⟩ := jn_open hf
    have J30 : ∀ (z4 : MS) (H : Heap) (locs : List Loc), j30 z4 = some (r, z') → MI D o ad H0 z4 H locs → ∀ ls : Array Slot, lv_has ls 3 [(0, .ref o), (1, .int a1), (2, .int a2)] → Z H locs 0 0 (F0 m 30 ls []) := by
      intro z4 H locs hf hM ls hl
      rw [hj30] at hf
      refine g_aload_n G dX6_teach_30 rfl (lv_at hl 0 rfl) ?_
      refine g_iload_n G dX6_teach_31 rfl (lv_at hl 1 rfl) ?_
      obtain ⟨r2, z5, h2, hf⟩ := bnd_open hf
      refine m_callVi (As := [.int a1]) (rest := []) X hM hl mc_masterOf (c_masterOf h2) rfl (Nat.le_of_ble_eq_true rfl) (Nat.le_of_ble_eq_true rfl) rfl dX6_teach_32 (fun H locs hM => ?_)
      refine g_iload_n G dX6_teach_35 rfl (lv_at hl 2 rfl) ?_
      refine g_icmp_ne (tgt := 51) G dX6_teach_36 rfl (fun c2 => ?_) (fun c2 => ?_)
      · have hf := it_neg c2 hf
        refine g_aload_n G dX6_teach_51 rfl (lv_at hl 0 rfl) ?_
        obtain ⟨z6, h3, hf⟩ := bnv_open hf
        refine m_callVv (As := []) (rest := []) X hM hl mc_keeps (c_keeps h3) rfl (Nat.le_of_ble_eq_true rfl) (Nat.le_of_ble_eq_true rfl) rfl dX6_teach_52 (fun H locs hM => ?_)
        refine g_aload_n G dX6_teach_55 rfl (lv_at hl 0 rfl) ?_
        refine mg_a X hM mf_53 dX6_teach_56 ?_
        refine g_iconst (v := 1) G dX6_teach_59 rfl ?_
        refine g_iconst (v := 5) G dX6_teach_60 rfl ?_
        refine g_iload_n G dX6_teach_61 rfl (lv_at hl 1 rfl) ?_
        refine g_imul G dX6_teach_62 ?_
        refine g_iadd G dX6_teach_63 ?_
        refine g_iload_n G dX6_teach_64 rfl (lv_at hl 2 rfl) ?_
        obtain ⟨b1, hf⟩ := ck_open hf
        obtain ⟨z7, hz7, hf⟩ := nm_open hf
        refine m_iast X hM (mIs.of mf_53) b1 hz7 dX6_teach_65 (fun H locs hM => ?_)
        refine g_iconst (v := 1) G dX6_teach_66 rfl ?_
        exact m_zret X hM hf dX6_teach_67
      · have hf := it_pos c2 hf
        exact J39 _ _ _ hf hM ls (lv_sub hl [0] rfl)
    refine g_icmp_eq (tgt := 30) G dX6_teach_10 rfl (fun c3 => ?_) (fun c3 => ?_)
    · have hf := it_pos c3 hf
      exact J30 _ _ _ hf hM ls (lv_sub hl [0, 1, 2] rfl)
    · have hf := it_neg c3 hf
      refine g_aload_n G dX6_teach_13 rfl (lv_at hl 0 rfl) ?_
      refine g_iload_n G dX6_teach_14 rfl (lv_at hl 2 rfl) ?_
      obtain ⟨r3, z8, h4, hf⟩ := bnd_open hf
      refine m_callVi (As := [.int a2]) (rest := []) X hM hl mc_isPerson (c_isPerson h4) rfl (Nat.le_of_ble_eq_true rfl) (Nat.le_of_ble_eq_true rfl) rfl dX6_teach_15 (fun H locs hM => ?_)
      refine g_if_eq (tgt := 39) G dX6_teach_18 rfl (fun c4 => ?_) (fun c4 => ?_)
      · have hf := it_pos c4 hf
        exact J39 _ _ _ hf hM ls (lv_sub hl [0] rfl)
      · have hf := it_neg c4 hf
        refine g_aload_n G dX6_teach_21 rfl (lv_at hl 0 rfl) ?_
        refine g_iload_n G dX6_teach_22 rfl (lv_at hl 2 rfl) ?_
        refine g_iload_n G dX6_teach_23 rfl (lv_at hl 1 rfl) ?_
        obtain ⟨r4, z9, h5, hf⟩ := bnd_open hf
        refine m_callVi (As := [.int a2, .int a1]) (rest := []) X hM hl mc_isTaughtBy (c_isTaughtBy h5) rfl (Nat.le_of_ble_eq_true rfl) (Nat.le_of_ble_eq_true rfl) rfl dX6_teach_24 (fun H locs hM => ?_)
        refine g_if_ne (tgt := 39) G dX6_teach_27 rfl (fun c5 => ?_) (fun c5 => ?_)
        · have hf := it_neg c5 hf
          exact J39 _ _ _ hf hM ls (lv_sub hl [0] rfl)
        · have hf := it_pos c5 hf
          exact J30 _ _ _ hf hM ls (lv_sub hl [0, 1, 2] rfl)
noncomputable def m_tell (a1 : Int32) (a2 : Int32) (z : MS) : Option (Bool × MS) :=
  bnd (m_isPerson a1 z) fun r1 z1 =>
  jn (fun (z2 : MS) =>
    nm (wA z2 9 (Int32.toNatClampNeg 2) ((mA z2 9 (Int32.toNatClampNeg 2)) + 1)) fun z3 =>
    some (false, z3)) fun j26 =>
  if (bI r1) = 0 then
    j26 z1
  else
    bnd (m_isFact a2 z1) fun r2 z4 =>
    if (bI r2) = 0 then
      j26 z4
    else
      bnd (m_isOf a1 a2 z4) fun r3 z5 =>
      if r3 = 1 then
        j26 z5
      else
        bnv (m_keeps z5) fun z6 =>
        bnv (m_makes a1 a2 1 z6) fun z7 =>
        some (true, z7)
set_option maxHeartbeats 1000000 in
theorem c_tell {l : Launch} {D : MD} {o : Nat} {ad : Nat → Nat} {a1 : Int32} {a2 : Int32} {z z' : MS} {r : Bool} (hf : m_tell a1 a2 z = some (r, z')) : MMet l D o ad yX6_tell cX6_tell 3 (some .boolean) 3 [.ref o, .int a1, .int a2] z z' (some (.int (bI r))) := by
  unfold m_tell at hf
  refine m_head pnX6 rfl (Nat.le_of_ble_eq_true rfl) (fun m Z H0 ls X hM hl => ?_)
  have G := X.g
  have hl : lv_has ls 3 [(0, .ref o), (1, .int a1), (2, .int a2)] := hl
  refine g_aload_n G dX6_tell_0 rfl (lv_at hl 0 rfl) ?_
  refine g_iload_n G dX6_tell_1 rfl (lv_at hl 1 rfl) ?_
  obtain ⟨r1, z1, h1, hf⟩ := bnd_open hf
  refine m_callVi (As := [.int a1]) (rest := []) X hM hl mc_isPerson (c_isPerson h1) rfl (Nat.le_of_ble_eq_true rfl) (Nat.le_of_ble_eq_true rfl) rfl dX6_tell_2 (fun H locs hM => ?_)
  obtain ⟨j26, hj26, hf⟩ := jn_open hf
  have J26 : ∀ (z2 : MS) (H : Heap) (locs : List Loc), j26 z2 = some (r, z') → MI D o ad H0 z2 H locs → ∀ ls : Array Slot, lv_has ls 3 [(0, .ref o)] → Z H locs 0 0 (F0 m 26 ls []) := by
    intro z2 H locs hf hM ls hl
    rw [hj26] at hf
    refine g_aload_n G dX6_tell_26 rfl (lv_at hl 0 rfl) ?_
    refine mg_a X hM mf_9 dX6_tell_27 ?_
    refine g_iconst (v := 2) G dX6_tell_30 rfl ?_
    refine g_dup2_11 G dX6_tell_31 rfl rfl ?_
    refine m_iald X hM (mIs.of mf_9) (by decide) dX6_tell_32 ?_
    refine g_iconst (v := 1) G dX6_tell_33 rfl ?_
    refine g_iadd G dX6_tell_34 ?_
    obtain ⟨z3, hz3, hf⟩ := nm_open hf
    refine m_iast X hM (mIs.of mf_9) (by decide) hz3 dX6_tell_35 (fun H locs hM => ?_)
    refine g_iconst (v := 0) G dX6_tell_36 rfl ?_
    exact m_zret X hM hf dX6_tell_37
  refine g_if_eq (tgt := 26) G dX6_tell_5 rfl (fun c1 => ?_) (fun c1 => ?_)
  · have hf := it_pos c1 hf
    exact J26 _ _ _ hf hM ls (lv_sub hl [0] rfl)
  · have hf := it_neg c1 hf
    refine g_aload_n G dX6_tell_8 rfl (lv_at hl 0 rfl) ?_
    refine g_iload_n G dX6_tell_9 rfl (lv_at hl 2 rfl) ?_
    obtain ⟨r2, z4, h2, hf⟩ := bnd_open hf
    refine m_callVi (As := [.int a2]) (rest := []) X hM hl mc_isFact (c_isFact h2) rfl (Nat.le_of_ble_eq_true rfl) (Nat.le_of_ble_eq_true rfl) rfl dX6_tell_10 (fun H locs hM => ?_)
    refine g_if_eq (tgt := 26) G dX6_tell_13 rfl (fun c2 => ?_) (fun c2 => ?_)
    · have hf := it_pos c2 hf
      exact J26 _ _ _ hf hM ls (lv_sub hl [0] rfl)
    · have hf := it_neg c2 hf
      refine g_aload_n G dX6_tell_16 rfl (lv_at hl 0 rfl) ?_
      refine g_iload_n G dX6_tell_17 rfl (lv_at hl 1 rfl) ?_
      refine g_iload_n G dX6_tell_18 rfl (lv_at hl 2 rfl) ?_
      obtain ⟨r3, z5, h3, hf⟩ := bnd_open hf
      refine m_callVi (As := [.int a1, .int a2]) (rest := []) X hM hl mc_isOf (c_isOf h3) rfl (Nat.le_of_ble_eq_true rfl) (Nat.le_of_ble_eq_true rfl) rfl dX6_tell_19 (fun H locs hM => ?_)
      refine g_iconst (v := 1) G dX6_tell_22 rfl ?_
      refine g_icmp_ne (tgt := 38) G dX6_tell_23 rfl (fun c3 => ?_) (fun c3 => ?_)
      · have hf := it_neg c3 hf
        refine g_aload_n G dX6_tell_38 rfl (lv_at hl 0 rfl) ?_
        obtain ⟨z6, h4, hf⟩ := bnv_open hf
        refine m_callVv (As := []) (rest := []) X hM hl mc_keeps (c_keeps h4) rfl (Nat.le_of_ble_eq_true rfl) (Nat.le_of_ble_eq_true rfl) rfl dX6_tell_39 (fun H locs hM => ?_)
        refine g_aload_n G dX6_tell_42 rfl (lv_at hl 0 rfl) ?_
        refine g_iload_n G dX6_tell_43 rfl (lv_at hl 1 rfl) ?_
        refine g_iload_n G dX6_tell_44 rfl (lv_at hl 2 rfl) ?_
        refine g_iconst (v := 1) G dX6_tell_45 rfl ?_
        obtain ⟨z7, h5, hf⟩ := bnv_open hf
        refine m_callVv (As := [.int a1, .int a2, .int 1]) (rest := []) X hM hl mc_makes (c_makes h5) rfl (Nat.le_of_ble_eq_true rfl) (Nat.le_of_ble_eq_true rfl) rfl dX6_tell_46 (fun H locs hM => ?_)
        refine g_iconst (v := 1) G dX6_tell_49 rfl ?_
        exact m_zret X hM hf dX6_tell_50
      · have hf := it_pos c3 hf
        exact J26 _ _ _ hf hM ls (lv_sub hl [0] rfl)
noncomputable def m_years (a1 : Int32) (z : MS) : Option (Int32 × MS) :=
  bnd (m_isAhead a1 1 100 z) fun r1 z1 =>
  if (bI r1) = 0 then
    nm (wA z1 9 (Int32.toNatClampNeg 3) ((mA z1 9 (Int32.toNatClampNeg 3)) + 1)) fun z5 =>
    some ((-1), z5)
  else
    bnv (m_keeps z1) fun z2 =>
    nm (wI z2 59 0) fun z3 =>
    bnv (m_yearsGo a1 z3) fun z4 =>
    some ((mI z4 59), z4)
set_option maxHeartbeats 1000000 in
theorem c_years {l : Launch} {D : MD} {o : Nat} {ad : Nat → Nat} {a1 : Int32} {z z' : MS} {r : Int32} (hf : m_years a1 z = some (r, z')) : MMet l D o ad yX6_years cX6_years 2 (some .int) 9 [.ref o, .int a1] z z' (some (.int r)) := by
  unfold m_years at hf
  refine m_head pnX6 rfl (Nat.le_of_ble_eq_true rfl) (fun m Z H0 ls X hM hl => ?_)
  have G := X.g
  have hl : lv_has ls 2 [(0, .ref o), (1, .int a1)] := hl
  refine g_aload_n G dX6_years_0 rfl (lv_at hl 0 rfl) ?_
  refine g_iload_n G dX6_years_1 rfl (lv_at hl 1 rfl) ?_
  refine g_iconst (v := 1) G dX6_years_2 rfl ?_
  refine g_bipush (v := 100) G dX6_years_3 rfl ?_
  obtain ⟨r1, z1, h1, hf⟩ := bnd_open hf
  refine m_callVi (As := [.int a1, .int 1, .int 100]) (rest := []) X hM hl mc_isAhead (c_isAhead h1) rfl (Nat.le_of_ble_eq_true rfl) (Nat.le_of_ble_eq_true rfl) rfl dX6_years_5 (fun H locs hM => ?_)
  refine g_if_ne (tgt := 23) G dX6_years_8 rfl (fun c1 => ?_) (fun c1 => ?_)
  · have hf := it_neg c1 hf
    refine g_aload_n G dX6_years_23 rfl (lv_at hl 0 rfl) ?_
    obtain ⟨z2, h2, hf⟩ := bnv_open hf
    refine m_callVv (As := []) (rest := []) X hM hl mc_keeps (c_keeps h2) rfl (Nat.le_of_ble_eq_true rfl) (Nat.le_of_ble_eq_true rfl) rfl dX6_years_24 (fun H locs hM => ?_)
    refine g_aload_n G dX6_years_27 rfl (lv_at hl 0 rfl) ?_
    refine g_iconst (v := 0) G dX6_years_28 rfl ?_
    obtain ⟨z3, hz3, hf⟩ := nm_open hf
    refine mp_i X hM mf_59 hz3 dX6_years_29 (fun H locs hM => ?_)
    refine g_aload_n G dX6_years_32 rfl (lv_at hl 0 rfl) ?_
    refine g_iload_n G dX6_years_33 rfl (lv_at hl 1 rfl) ?_
    obtain ⟨z4, h3, hf⟩ := bnv_open hf
    refine m_callVv (As := [.int a1]) (rest := []) X hM hl mc_yearsGo (c_yearsGo h3) rfl (Nat.le_of_ble_eq_true rfl) (Nat.le_of_ble_eq_true rfl) rfl dX6_years_34 (fun H locs hM => ?_)
    refine g_aload_n G dX6_years_37 rfl (lv_at hl 0 rfl) ?_
    refine mg_i X hM mf_59 dX6_years_38 ?_
    exact m_iret X hM hf dX6_years_41
  · have hf := it_pos c1 hf
    refine g_aload_n G dX6_years_11 rfl (lv_at hl 0 rfl) ?_
    refine mg_a X hM mf_9 dX6_years_12 ?_
    refine g_iconst (v := 3) G dX6_years_15 rfl ?_
    refine g_dup2_11 G dX6_years_16 rfl rfl ?_
    refine m_iald X hM (mIs.of mf_9) (by decide) dX6_years_17 ?_
    refine g_iconst (v := 1) G dX6_years_18 rfl ?_
    refine g_iadd G dX6_years_19 ?_
    obtain ⟨z5, hz5, hf⟩ := nm_open hf
    refine m_iast X hM (mIs.of mf_9) (by decide) hz5 dX6_years_20 (fun H locs hM => ?_)
    refine g_iconst (v := (-1)) G dX6_years_21 rfl ?_
    exact m_iret X hM hf dX6_years_22
noncomputable def m_seed (a1 : Int32) (z : MS) : Option (Bool × MS) :=
  if 0 ≤ a1 then
    nm (wL z 67 (Int32.toInt64 a1)) fun z1 =>
    some (true, z1)
  else
    nm (wA z 9 (Int32.toNatClampNeg 5) ((mA z 9 (Int32.toNatClampNeg 5)) + 1)) fun z2 =>
    some (false, z2)
set_option maxHeartbeats 1000000 in
theorem c_seed {l : Launch} {D : MD} {o : Nat} {ad : Nat → Nat} {a1 : Int32} {z z' : MS} {r : Bool} (hf : m_seed a1 z = some (r, z')) : MMet l D o ad yX6_seed cX6_seed 2 (some .boolean) 1 [.ref o, .int a1] z z' (some (.int (bI r))) := by
  unfold m_seed at hf
  refine m_head pnX6 rfl (Nat.le_of_ble_eq_true rfl) (fun m Z H0 ls X hM hl => ?_)
  have G := X.g
  have hl : lv_has ls 2 [(0, .ref o), (1, .int a1)] := hl
  refine g_iload_n G dX6_seed_0 rfl (lv_at hl 1 rfl) ?_
  refine g_if_ge (tgt := 16) G dX6_seed_1 rfl (fun c1 => ?_) (fun c1 => ?_)
  · have hf := it_pos c1 hf
    refine g_aload_n G dX6_seed_16 rfl (lv_at hl 0 rfl) ?_
    refine g_iload_n G dX6_seed_17 rfl (lv_at hl 1 rfl) ?_
    refine g_i2l (v := Int32.toInt64 a1) G dX6_seed_18 rfl ?_
    obtain ⟨z1, hz1, hf⟩ := nm_open hf
    refine mp_l X hM mf_67 hz1 dX6_seed_19 (fun H locs hM => ?_)
    refine g_iconst (v := 1) G dX6_seed_22 rfl ?_
    exact m_zret X hM hf dX6_seed_23
  · have hf := it_neg c1 hf
    refine g_aload_n G dX6_seed_4 rfl (lv_at hl 0 rfl) ?_
    refine mg_a X hM mf_9 dX6_seed_5 ?_
    refine g_iconst (v := 5) G dX6_seed_8 rfl ?_
    refine g_dup2_11 G dX6_seed_9 rfl rfl ?_
    refine m_iald X hM (mIs.of mf_9) (by decide) dX6_seed_10 ?_
    refine g_iconst (v := 1) G dX6_seed_11 rfl ?_
    refine g_iadd G dX6_seed_12 ?_
    obtain ⟨z2, hz2, hf⟩ := nm_open hf
    refine m_iast X hM (mIs.of mf_9) (by decide) hz2 dX6_seed_13 (fun H locs hM => ?_)
    refine g_iconst (v := 0) G dX6_seed_14 rfl ?_
    exact m_zret X hM hf dX6_seed_15
theorem mc_drawOf : mcV yX6_drawOf cX6_drawOf 2 (some .int) 1 558 := ⟨lw_V q2397 q2399 qs135 q157 q2400, ⟨rfl, by decide +kernel, by decide +kernel, by decide +kernel⟩, Nat.le_of_ble_eq_true rfl⟩
noncomputable def m_drawOf (a1 : Int32) (z : MS) : Option (Int32 × MS) :=
  nm (wL z 67 (((1103515245 * (mL z 67)) + 12345) - ((1103515245 * (mL z 67)) + 12345) / 2147483648 * 2147483648)) fun z1 =>
  ck (!decide ((Int32.toInt64 a1) = 0)) <|
  some ((Int64.toInt32 (((mL z1 67) / 64) - ((mL z1 67) / 64) / (Int32.toInt64 a1) * (Int32.toInt64 a1))), z1)
set_option maxHeartbeats 1000000 in
theorem c_drawOf {l : Launch} {D : MD} {o : Nat} {ad : Nat → Nat} {a1 : Int32} {z z' : MS} {r : Int32} (hf : m_drawOf a1 z = some (r, z')) : MMet l D o ad yX6_drawOf cX6_drawOf 2 (some .int) 1 [.ref o, .int a1] z z' (some (.int r)) := by
  unfold m_drawOf at hf
  refine m_head pnX6 rfl (Nat.le_of_ble_eq_true rfl) (fun m Z H0 ls X hM hl => ?_)
  have G := X.g
  have hl : lv_has ls 2 [(0, .ref o), (1, .int a1)] := hl
  refine g_aload_n G dX6_drawOf_0 rfl (lv_at hl 0 rfl) ?_
  refine g_ldc2 G q2401 dX6_drawOf_1 ?_
  refine g_aload_n G dX6_drawOf_4 rfl (lv_at hl 0 rfl) ?_
  refine mg_l X hM mf_67 dX6_drawOf_5 ?_
  refine g_lmul G dX6_drawOf_8 ?_
  refine g_ldc2 G q2402 dX6_drawOf_9 ?_
  refine g_ladd G dX6_drawOf_12 ?_
  refine g_ldc2 G q2403 dX6_drawOf_13 ?_
  refine g_lrem G dX6_drawOf_16 (by decide) ?_
  obtain ⟨z1, hz1, hf⟩ := nm_open hf
  refine mp_l X hM mf_67 hz1 dX6_drawOf_17 (fun H locs hM => ?_)
  refine g_aload_n G dX6_drawOf_20 rfl (lv_at hl 0 rfl) ?_
  refine mg_l X hM mf_67 dX6_drawOf_21 ?_
  refine g_ldc2 G q2404 dX6_drawOf_24 ?_
  refine g_ldiv G dX6_drawOf_27 (by decide) ?_
  refine g_iload_n G dX6_drawOf_28 rfl (lv_at hl 1 rfl) ?_
  refine g_i2l (v := Int32.toInt64 a1) G dX6_drawOf_29 rfl ?_
  obtain ⟨b1, hf⟩ := ck_open hf
  refine g_lrem G dX6_drawOf_30 (by simpa using b1) ?_
  refine g_l2i (v := Int64.toInt32 (((mL z1 67) / 64) - ((mL z1 67) / 64) / (Int32.toInt64 a1) * (Int32.toInt64 a1))) G dX6_drawOf_31 rfl ?_
  exact m_iret X hM hf dX6_drawOf_32
noncomputable def m_chance_L42 (k81 : Int32 → MS → Option (Int32 × MS)) (s42 : Int32 → Int32 → MS → Option (Int32 × MS)) (x4 : Int32) (x5 : Int32) (z7 : MS) : Option (Int32 × MS) :=
  bnd (m_personMany z7) fun r3 z8 =>
  if r3 ≤ x5 then
    k81 x4 z8
  else
    bnd (m_drawOf 100 z8) fun r4 z9 =>
    jn (fun (x6 : Int32) (z10 : MS) =>
      s42 x6 (x5 + 1) z10) fun j75 =>
    if (mA z9 46 (Int32.toNatClampNeg 5)) ≤ r4 then
      j75 x4 z9
    else
      j75 (x4 ||| (1 <<< (x5 &&& 31))) z9
noncomputable def m_chance_L31 (a1 : Int32) (s31 : Int32 → Int32 → MS → Option (Int32 × MS)) (x1 : Int32) (x2 : Int32) (z3 : MS) : Option (Int32 × MS) :=
  if a1 ≤ x2 then
    some (x1, z3)
  else
    jn (fun (x3 : Int32) (z4 : MS) =>
      bnd (m_bits x3 z4) fun r2 z5 =>
      bnv (m_yearGoes x3 z5) fun z6 =>
      s31 (x1 + r2) (x2 + 1) z6) fun k81 =>
    fx (m_chance_L42 k81) (fun _ _ _ => none) FU 0 0 z3
noncomputable def m_chance (a1 : Int32) (z : MS) : Option (Int32 × MS) :=
  bnd (m_isAhead a1 1 100 z) fun r1 z1 =>
  if (bI r1) = 0 then
    nm (wA z1 9 (Int32.toNatClampNeg 3) ((mA z1 9 (Int32.toNatClampNeg 3)) + 1)) fun z11 =>
    some ((-1), z11)
  else
    bnv (m_keeps z1) fun z2 =>
    fx (m_chance_L31 a1) (fun _ _ _ => none) FU 0 0 z2
set_option maxHeartbeats 1000000 in
theorem c_chance {l : Launch} {D : MD} {o : Nat} {ad : Nat → Nat} {a1 : Int32} {z z' : MS} {r : Int32} (hf : m_chance a1 z = some (r, z')) : MMet l D o ad yX6_chance cX6_chance 6 (some .int) 8 [.ref o, .int a1] z z' (some (.int r)) := by
  unfold m_chance at hf
  refine m_head pnX6 rfl (Nat.le_of_ble_eq_true rfl) (fun m Z H0 ls X hM hl => ?_)
  have G := X.g
  have hl : lv_has ls 6 [(0, .ref o), (1, .int a1)] := hl
  refine g_aload_n G dX6_chance_0 rfl (lv_at hl 0 rfl) ?_
  refine g_iload_n G dX6_chance_1 rfl (lv_at hl 1 rfl) ?_
  refine g_iconst (v := 1) G dX6_chance_2 rfl ?_
  refine g_bipush (v := 100) G dX6_chance_3 rfl ?_
  obtain ⟨r1, z1, h1, hf⟩ := bnd_open hf
  refine m_callVi (As := [.int a1, .int 1, .int 100]) (rest := []) X hM hl mc_isAhead (c_isAhead h1) rfl (Nat.le_of_ble_eq_true rfl) (Nat.le_of_ble_eq_true rfl) rfl dX6_chance_5 (fun H locs hM => ?_)
  refine g_if_ne (tgt := 23) G dX6_chance_8 rfl (fun c1 => ?_) (fun c1 => ?_)
  · have hf := it_neg c1 hf
    refine g_aload_n G dX6_chance_23 rfl (lv_at hl 0 rfl) ?_
    obtain ⟨z2, h2, hf⟩ := bnv_open hf
    refine m_callVv (As := []) (rest := []) X hM hl mc_keeps (c_keeps h2) rfl (Nat.le_of_ble_eq_true rfl) (Nat.le_of_ble_eq_true rfl) rfl dX6_chance_24 (fun H locs hM => ?_)
    refine g_iconst (v := 0) G dX6_chance_27 rfl ?_
    refine g_istore_n (lv' := [(2, .int 0), (0, .ref o), (1, .int a1)]) G dX6_chance_28 rfl hl (Nat.le_of_ble_eq_true rfl) rfl (fun ls hl => ?_)
    refine g_iconst (v := 0) G dX6_chance_29 rfl ?_
    refine g_istore_n (lv' := [(3, .int 0), (2, .int 0), (0, .ref o), (1, .int a1)]) G dX6_chance_30 rfl hl (Nat.le_of_ble_eq_true rfl) rfl (fun ls hl => ?_)
    have L31 : ∀ (n : Nat) (x1 : Int32) (x2 : Int32) (z3 : MS) (H : Heap) (locs : List Loc), fx (m_chance_L31 a1) (fun _ _ _ => none) n x1 x2 z3 = some (r, z') → MI D o ad H0 z3 H locs → ∀ ls : Array Slot, lv_has ls 6 [(0, .ref o), (1, .int a1), (2, .int x1), (3, .int x2)] → Z H locs 0 0 (F0 m 31 ls []) := by
      intro n
      induction n with
      | zero => intro x1 x2 z3 H locs hf; exact absurd hf (by intro q; cases q)
      | succ n ih31 =>
        intro x1 x2 z3 H locs hf hM ls hl
        rw [fx_s] at hf
        generalize fx (m_chance_L31 a1) (fun _ _ _ => none) n = s31 at hf ih31
        unfold m_chance_L31 at hf
        refine g_iload_n G dX6_chance_31 rfl (lv_at hl 3 rfl) ?_
        refine g_iload_n G dX6_chance_32 rfl (lv_at hl 1 rfl) ?_
        refine g_icmp_ge (tgt := 101) G dX6_chance_33 rfl (fun c2 => ?_) (fun c2 => ?_)
        · have hf := it_pos c2 hf
          refine g_iload_n G dX6_chance_101 rfl (lv_at hl 2 rfl) ?_
          exact m_iret X hM hf dX6_chance_102
        · have hf := it_neg c2 hf
          refine g_iconst (v := 0) G dX6_chance_36 rfl ?_
          refine g_istore (lv' := [(4, .int 0), (0, .ref o), (1, .int a1), (2, .int x1), (3, .int x2)]) G dX6_chance_37 hl (Nat.le_of_ble_eq_true rfl) rfl (fun ls hl => ?_)
          refine g_iconst (v := 0) G dX6_chance_39 rfl ?_
          refine g_istore (lv' := [(5, .int 0), (4, .int 0), (0, .ref o), (1, .int a1), (2, .int x1), (3, .int x2)]) G dX6_chance_40 hl (Nat.le_of_ble_eq_true rfl) rfl (fun ls hl => ?_)
          obtain ⟨k81, hk81, hf⟩ := jn_open hf
          have K81 : ∀ (x3 : Int32) (z4 : MS) (H : Heap) (locs : List Loc), k81 x3 z4 = some (r, z') → MI D o ad H0 z4 H locs → ∀ ls : Array Slot, lv_has ls 6 [(0, .ref o), (1, .int a1), (2, .int x1), (3, .int x2), (4, .int x3)] → Z H locs 0 0 (F0 m 81 ls []) := by
            intro x3 z4 H locs hf hM ls hl
            rw [hk81] at hf
            refine g_iload_n G dX6_chance_81 rfl (lv_at hl 2 rfl) ?_
            refine g_iload G dX6_chance_82 (lv_at hl 4 rfl) ?_
            obtain ⟨r2, z5, h3, hf⟩ := bnd_open hf
            refine m_callSi (As := [.int x3]) (rest := [.int x1]) X hM hl mc_bits (c_bits h3) rfl (Nat.le_of_ble_eq_true rfl) (Nat.le_of_ble_eq_true rfl) rfl dX6_chance_84 (fun H locs hM => ?_)
            refine g_iadd G dX6_chance_87 ?_
            refine g_istore_n (lv' := [(2, .int (x1 + r2)), (0, .ref o), (1, .int a1), (3, .int x2), (4, .int x3)]) G dX6_chance_88 rfl hl (Nat.le_of_ble_eq_true rfl) rfl (fun ls hl => ?_)
            refine g_aload_n G dX6_chance_89 rfl (lv_at hl 1 rfl) ?_
            refine g_iload G dX6_chance_90 (lv_at hl 4 rfl) ?_
            obtain ⟨z6, h4, hf⟩ := bnv_open hf
            refine m_callVv (As := [.int x3]) (rest := []) X hM hl mc_yearGoes (c_yearGoes h4) rfl (Nat.le_of_ble_eq_true rfl) (Nat.le_of_ble_eq_true rfl) rfl dX6_chance_92 (fun H locs hM => ?_)
            refine g_iinc (v := x2 + 1) (lv' := [(3, .int (x2 + 1)), (2, .int (x1 + r2)), (0, .ref o), (1, .int a1), (4, .int x3)]) G dX6_chance_95 hl (k := 3) rfl rfl (Nat.le_of_ble_eq_true rfl) rfl (fun ls hl => ?_)
            refine g_goto (tgt := 31) G dX6_chance_98 rfl ?_
            exact ih31 _ _ _ _ _ hf hM ls (lv_sub hl [2, 3, 1, 0] rfl)
          have L42 : ∀ (n : Nat) (x4 : Int32) (x5 : Int32) (z7 : MS) (H : Heap) (locs : List Loc), fx (m_chance_L42 k81) (fun _ _ _ => none) n x4 x5 z7 = some (r, z') → MI D o ad H0 z7 H locs → ∀ ls : Array Slot, lv_has ls 6 [(0, .ref o), (1, .int a1), (2, .int x1), (3, .int x2), (4, .int x4), (5, .int x5)] → Z H locs 0 0 (F0 m 42 ls []) := by
            intro n
            induction n with
            | zero => intro x4 x5 z7 H locs hf; exact absurd hf (by intro q; cases q)
            | succ n ih42 =>
              intro x4 x5 z7 H locs hf hM ls hl
              rw [fx_s] at hf
              generalize fx (m_chance_L42 k81) (fun _ _ _ => none) n = s42 at hf ih42
              unfold m_chance_L42 at hf
              refine g_iload G dX6_chance_42 (lv_at hl 5 rfl) ?_
              refine g_aload_n G dX6_chance_44 rfl (lv_at hl 0 rfl) ?_
              obtain ⟨r3, z8, h5, hf⟩ := bnd_open hf
              refine m_callVi (As := []) (rest := [.int x5]) X hM hl mc_personMany (c_personMany h5) rfl (Nat.le_of_ble_eq_true rfl) (Nat.le_of_ble_eq_true rfl) rfl dX6_chance_45 (fun H locs hM => ?_)
              refine g_icmp_ge (tgt := 81) G dX6_chance_48 rfl (fun c3 => ?_) (fun c3 => ?_)
              · have hf := it_pos c3 hf
                exact K81 _ _ _ _ hf hM ls (lv_sub hl [0, 1, 2, 3, 4] rfl)
              · have hf := it_neg c3 hf
                refine g_aload_n G dX6_chance_51 rfl (lv_at hl 0 rfl) ?_
                refine g_bipush (v := 100) G dX6_chance_52 rfl ?_
                obtain ⟨r4, z9, h6, hf⟩ := bnd_open hf
                refine m_callVi (As := [.int 100]) (rest := []) X hM hl mc_drawOf (c_drawOf h6) rfl (Nat.le_of_ble_eq_true rfl) (Nat.le_of_ble_eq_true rfl) rfl dX6_chance_54 (fun H locs hM => ?_)
                refine g_aload_n G dX6_chance_57 rfl (lv_at hl 0 rfl) ?_
                refine mg_a X hM mf_46 dX6_chance_58 ?_
                refine g_iconst (v := 5) G dX6_chance_61 rfl ?_
                refine m_iald X hM (mIs.of mf_46) (by decide) dX6_chance_62 ?_
                obtain ⟨j75, hj75, hf⟩ := jn_open hf
                have J75 : ∀ (x6 : Int32) (z10 : MS) (H : Heap) (locs : List Loc), j75 x6 z10 = some (r, z') → MI D o ad H0 z10 H locs → ∀ ls : Array Slot, lv_has ls 6 [(0, .ref o), (1, .int a1), (2, .int x1), (3, .int x2), (4, .int x6), (5, .int x5)] → Z H locs 0 0 (F0 m 75 ls []) := by
                  intro x6 z10 H locs hf hM ls hl
                  rw [hj75] at hf
                  refine g_iinc (v := x5 + 1) (lv' := [(5, .int (x5 + 1)), (0, .ref o), (1, .int a1), (2, .int x1), (3, .int x2), (4, .int x6)]) G dX6_chance_75 hl (k := 5) rfl rfl (Nat.le_of_ble_eq_true rfl) rfl (fun ls hl => ?_)
                  refine g_goto (tgt := 42) G dX6_chance_78 rfl ?_
                  exact ih42 _ _ _ _ _ hf hM ls (lv_sub hl [1, 2, 3, 4, 5, 0] rfl)
                refine g_icmp_ge (tgt := 75) G dX6_chance_63 rfl (fun c4 => ?_) (fun c4 => ?_)
                · have hf := it_pos c4 hf
                  exact J75 _ _ _ _ hf hM ls (lv_sub hl [0, 1, 2, 3, 4, 5] rfl)
                · have hf := it_neg c4 hf
                  refine g_iload G dX6_chance_66 (lv_at hl 4 rfl) ?_
                  refine g_iconst (v := 1) G dX6_chance_68 rfl ?_
                  refine g_iload G dX6_chance_69 (lv_at hl 5 rfl) ?_
                  refine g_ishl G dX6_chance_71 ?_
                  refine g_ior G dX6_chance_72 ?_
                  refine g_istore (lv' := [(4, .int (x4 ||| (1 <<< (x5 &&& 31)))), (0, .ref o), (1, .int a1), (2, .int x1), (3, .int x2), (5, .int x5)]) G dX6_chance_73 hl (Nat.le_of_ble_eq_true rfl) rfl (fun ls hl => ?_)
                  exact J75 _ _ _ _ hf hM ls (lv_sub hl [1, 2, 3, 4, 0, 5] rfl)
          exact L42 FU _ _ _ _ _ hf hM ls (lv_sub hl [2, 3, 4, 5, 1, 0] rfl)
    exact L31 FU _ _ _ _ _ hf hM ls (lv_sub hl [2, 3, 1, 0] rfl)
  · have hf := it_pos c1 hf
    refine g_aload_n G dX6_chance_11 rfl (lv_at hl 0 rfl) ?_
    refine mg_a X hM mf_9 dX6_chance_12 ?_
    refine g_iconst (v := 3) G dX6_chance_15 rfl ?_
    refine g_dup2_11 G dX6_chance_16 rfl rfl ?_
    refine m_iald X hM (mIs.of mf_9) (by decide) dX6_chance_17 ?_
    refine g_iconst (v := 1) G dX6_chance_18 rfl ?_
    refine g_iadd G dX6_chance_19 ?_
    obtain ⟨z11, hz11, hf⟩ := nm_open hf
    refine m_iast X hM (mIs.of mf_9) (by decide) hz11 dX6_chance_20 (fun H locs hM => ?_)
    refine g_iconst (v := (-1)) G dX6_chance_21 rfl ?_
    exact m_iret X hM hf dX6_chance_22
theorem mc_qOf : mcV yX6_qOf cX6_qOf 5 (some .long) 3 630 := ⟨lw_V q2418 q2420 qs138 q157 q2421, ⟨rfl, by decide +kernel, by decide +kernel, by decide +kernel⟩, Nat.le_of_ble_eq_true rfl⟩
noncomputable def m_qOf (a1 : Int32) (a2 : Int64) (a3 : Int32) (z : MS) : Option (Int64 × MS) :=
  bnd (m_personMany z) fun r1 z1 =>
  bnd (m_isIn a2 0 (Int32.toInt64 (r1 - 1)) z1) fun r2 z2 =>
  if (bI r2) = 0 then
    some (0, z2)
  else
    bnd (m_rightOf (Int64.toInt32 a2) z2) fun r3 z3 =>
    some ((Int32.toInt64 ((r3 >>> (a3 &&& 31)) &&& 1)), z3)
set_option maxHeartbeats 1000000 in
theorem c_qOf {l : Launch} {D : MD} {o : Nat} {ad : Nat → Nat} {a1 : Int32} {a2 : Int64} {a3 : Int32} {z z' : MS} {r : Int64} (hf : m_qOf a1 a2 a3 z = some (r, z')) : MMet l D o ad yX6_qOf cX6_qOf 5 (some .long) 2 [.ref o, .int a1, .long a2, .int a3] z z' (some (.long r)) := by
  unfold m_qOf at hf
  refine m_head pnX6 rfl (Nat.le_of_ble_eq_true rfl) (fun m Z H0 ls X hM hl => ?_)
  have G := X.g
  have hl : lv_has ls 5 [(0, .ref o), (1, .int a1), (2, .long a2), (4, .int a3)] := hl
  refine g_iload_n G dX6_qOf_0 rfl (lv_at hl 1 rfl) ?_
  refine g_lookup (off := 11) (tgt := 12) G dX6_qOf_1 (by decide) (by show Op.lookupswitch.offset [] _ _ = _; rw []; rfl) rfl ?_
  refine g_lload_n G dX6_qOf_12 rfl (lv_at hl 2 rfl) ?_
  refine g_lconst (v := 0) G dX6_qOf_13 rfl ?_
  refine g_aload_n G dX6_qOf_14 rfl (lv_at hl 0 rfl) ?_
  obtain ⟨r1, z1, h1, hf⟩ := bnd_open hf
  refine m_callVi (As := []) (rest := [.long 0, .long a2]) X hM hl mc_personMany (c_personMany h1) rfl (Nat.le_of_ble_eq_true rfl) (Nat.le_of_ble_eq_true rfl) rfl dX6_qOf_15 (fun H locs hM => ?_)
  refine g_iconst (v := 1) G dX6_qOf_18 rfl ?_
  refine g_isub G dX6_qOf_19 ?_
  refine g_i2l (v := Int32.toInt64 (r1 - 1)) G dX6_qOf_20 rfl ?_
  obtain ⟨r2, z2, h2, hf⟩ := bnd_open hf
  refine m_callSi (As := [.long a2, .long 0, .long (Int32.toInt64 (r1 - 1))]) (rest := []) X hM hl mc_isIn (c_isIn h2) rfl (Nat.le_of_ble_eq_true rfl) (Nat.le_of_ble_eq_true rfl) rfl dX6_qOf_21 (fun H locs hM => ?_)
  refine g_if_eq (tgt := 42) G dX6_qOf_24 rfl (fun c1 => ?_) (fun c1 => ?_)
  · have hf := it_pos c1 hf
    refine g_lconst (v := 0) G dX6_qOf_42 rfl ?_
    exact m_lret X hM hf dX6_qOf_43
  · have hf := it_neg c1 hf
    refine g_aload_n G dX6_qOf_27 rfl (lv_at hl 0 rfl) ?_
    refine g_lload_n G dX6_qOf_28 rfl (lv_at hl 2 rfl) ?_
    refine g_l2i (v := Int64.toInt32 a2) G dX6_qOf_29 rfl ?_
    obtain ⟨r3, z3, h3, hf⟩ := bnd_open hf
    refine m_callVi (As := [.int (Int64.toInt32 a2)]) (rest := []) X hM hl mc_rightOf (c_rightOf h3) rfl (Nat.le_of_ble_eq_true rfl) (Nat.le_of_ble_eq_true rfl) rfl dX6_qOf_30 (fun H locs hM => ?_)
    refine g_iload G dX6_qOf_33 (lv_at hl 3 rfl) ?_
    refine g_ishr G dX6_qOf_35 ?_
    refine g_iconst (v := 1) G dX6_qOf_36 rfl ?_
    refine g_iand G dX6_qOf_37 ?_
    refine g_i2l (v := Int32.toInt64 ((r3 >>> (a3 &&& 31)) &&& 1)) G dX6_qOf_38 rfl ?_
    refine g_goto (tgt := 43) G dX6_qOf_39 rfl ?_
    exact m_lret X hM hf dX6_qOf_43
theorem mc_qTold : mcV yX6_qTold cX6_qTold 4 (some .long) 1 645 := ⟨lw_V q2414 q2416 qs137 q157 q2417, ⟨rfl, by decide +kernel, by decide +kernel, by decide +kernel⟩, Nat.le_of_ble_eq_true rfl⟩
noncomputable def m_qTold_L7 (a1 : Int32) (k168 : MS → Option (Int64 × MS)) (s7 : Int32 → MS → Option (Int64 × MS)) (x1 : Int32) (z3 : MS) : Option (Int64 × MS) :=
  if (mI z3 94) ≤ x1 then
    k168 z3
  else
    ck (inb x1 (mN 93)) <|
    jn (fun (z4 : MS) =>
      s7 (x1 + 1) z4) fun j162 =>
    if (mA z3 93 (Int32.toNatClampNeg x1)) < 1000 then
      if (mA z3 93 (Int32.toNatClampNeg x1)) < 60 then
        if (mA z3 93 (Int32.toNatClampNeg x1)) < 40 then
          if (mA z3 93 (Int32.toNatClampNeg x1)) = 13 then
            bnv (m_qPuts 1 z3) fun z7 =>
            j162 z7
          else
            if (mA z3 93 (Int32.toNatClampNeg x1)) = 12 then
              ck (inb ((mI z3 100) - 1) (mN 99)) <|
              ck (inb ((mI z3 100) - 1) (mN 99)) <|
              nm (wB z3 99 (Int32.toNatClampNeg ((mI z3 100) - 1)) (1 - (mB z3 99 (Int32.toNatClampNeg ((mI z3 100) - 1))))) fun z6 =>
              j162 z6
            else
              bnv (m_qJoins (mA z3 93 (Int32.toNatClampNeg x1)) z3) fun z5 =>
              j162 z5
        else
          bnd (m_qPartOf ((mA z3 93 (Int32.toNatClampNeg x1)) - 40) a1 z3) fun r1 z8 =>
          bnd (m_qClip r1 z8) fun r2 z9 =>
          bnv (m_qPuts r2 z9) fun z10 =>
          j162 z10
      else
        ck (inb ((mI z3 100) - 1) (mN 99)) <|
        bnd (m_qOf ((mA z3 93 (Int32.toNatClampNeg x1)) - 60) (mB z3 99 (Int32.toNatClampNeg ((mI z3 100) - 1))) a1 z3) fun r3 z11 =>
        bnd (m_qClip r3 z11) fun r4 z12 =>
        ck (inb ((mI z3 100) - 1) (mN 99)) <|
        nm (wB z12 99 (Int32.toNatClampNeg ((mI z3 100) - 1)) r4) fun z13 =>
        j162 z13
    else
      bnv (m_qPuts (Int32.toInt64 ((mA z3 93 (Int32.toNatClampNeg x1)) - 1000)) z3) fun z14 =>
      j162 z14
noncomputable def m_qTold (a1 : Int32) (z : MS) : Option (Int64 × MS) :=
  nm (wI z 100 0) fun z1 =>
  jn (fun (z2 : MS) =>
    some ((mB z2 99 (Int32.toNatClampNeg 0)), z2)) fun k168 =>
  fx (m_qTold_L7 a1 k168) (fun _ _ => none) FU 0 z1
set_option maxHeartbeats 1000000 in
theorem c_qTold {l : Launch} {D : MD} {o : Nat} {ad : Nat → Nat} {a1 : Int32} {z z' : MS} {r : Int64} (hf : m_qTold a1 z = some (r, z')) : MMet l D o ad yX6_qTold cX6_qTold 4 (some .long) 4 [.ref o, .int a1] z z' (some (.long r)) := by
  unfold m_qTold at hf
  refine m_head pnX6 rfl (Nat.le_of_ble_eq_true rfl) (fun m Z H0 ls X hM hl => ?_)
  have G := X.g
  have hl : lv_has ls 4 [(0, .ref o), (1, .int a1)] := hl
  refine g_aload_n G dX6_qTold_0 rfl (lv_at hl 0 rfl) ?_
  refine g_iconst (v := 0) G dX6_qTold_1 rfl ?_
  obtain ⟨z1, hz1, hf⟩ := nm_open hf
  refine mp_i X hM mf_100 hz1 dX6_qTold_2 (fun H locs hM => ?_)
  refine g_iconst (v := 0) G dX6_qTold_5 rfl ?_
  refine g_istore_n (lv' := [(2, .int 0), (0, .ref o), (1, .int a1)]) G dX6_qTold_6 rfl hl (Nat.le_of_ble_eq_true rfl) rfl (fun ls hl => ?_)
  obtain ⟨k168, hk168, hf⟩ := jn_open hf
  have K168 : ∀ (z2 : MS) (H : Heap) (locs : List Loc), k168 z2 = some (r, z') → MI D o ad H0 z2 H locs → ∀ ls : Array Slot, lv_has ls 4 [(0, .ref o)] → Z H locs 0 0 (F0 m 168 ls []) := by
    intro z2 H locs hf hM ls hl
    rw [hk168] at hf
    refine g_aload_n G dX6_qTold_168 rfl (lv_at hl 0 rfl) ?_
    refine mg_a X hM mf_99 dX6_qTold_169 ?_
    refine g_iconst (v := 0) G dX6_qTold_172 rfl ?_
    refine m_lald X hM (mIs.of mf_99) (by decide) dX6_qTold_173 ?_
    exact m_lret X hM hf dX6_qTold_174
  have L7 : ∀ (n : Nat) (x1 : Int32) (z3 : MS) (H : Heap) (locs : List Loc), fx (m_qTold_L7 a1 k168) (fun _ _ => none) n x1 z3 = some (r, z') → MI D o ad H0 z3 H locs → ∀ ls : Array Slot, lv_has ls 4 [(0, .ref o), (1, .int a1), (2, .int x1)] → Z H locs 0 0 (F0 m 7 ls []) := by
    intro n
    induction n with
    | zero => intro x1 z3 H locs hf; exact absurd hf (by intro q; cases q)
    | succ n ih7 =>
      intro x1 z3 H locs hf hM ls hl
      rw [fx_s] at hf
      generalize fx (m_qTold_L7 a1 k168) (fun _ _ => none) n = s7 at hf ih7
      unfold m_qTold_L7 at hf
      refine g_iload_n G dX6_qTold_7 rfl (lv_at hl 2 rfl) ?_
      refine g_aload_n G dX6_qTold_8 rfl (lv_at hl 0 rfl) ?_
      refine mg_i X hM mf_94 dX6_qTold_9 ?_
      refine g_icmp_ge (tgt := 168) G dX6_qTold_12 rfl (fun c1 => ?_) (fun c1 => ?_)
      · have hf := it_pos c1 hf
        exact K168 _ _ _ hf hM ls (lv_sub hl [0] rfl)
      · have hf := it_neg c1 hf
        refine g_aload_n G dX6_qTold_15 rfl (lv_at hl 0 rfl) ?_
        refine mg_a X hM mf_93 dX6_qTold_16 ?_
        refine g_iload_n G dX6_qTold_19 rfl (lv_at hl 2 rfl) ?_
        obtain ⟨b1, hf⟩ := ck_open hf
        refine m_iald X hM (mIs.of mf_93) b1 dX6_qTold_20 ?_
        refine g_istore_n (lv' := [(3, .int (mA z3 93 (Int32.toNatClampNeg x1))), (0, .ref o), (1, .int a1), (2, .int x1)]) G dX6_qTold_21 rfl hl (Nat.le_of_ble_eq_true rfl) rfl (fun ls hl => ?_)
        refine g_iload_n G dX6_qTold_22 rfl (lv_at hl 0 rfl) ?_
        refine g_sipush (v := 1000) G dX6_qTold_23 rfl ?_
        obtain ⟨j162, hj162, hf⟩ := jn_open hf
        have J162 : ∀ (z4 : MS) (H : Heap) (locs : List Loc), j162 z4 = some (r, z') → MI D o ad H0 z4 H locs → ∀ ls : Array Slot, lv_has ls 4 [(0, .ref o), (1, .int a1), (2, .int x1)] → Z H locs 0 0 (F0 m 162 ls []) := by
          intro z4 H locs hf hM ls hl
          rw [hj162] at hf
          refine g_iinc (v := x1 + 1) (lv' := [(2, .int (x1 + 1)), (0, .ref o), (1, .int a1)]) G dX6_qTold_162 hl (k := 2) rfl rfl (Nat.le_of_ble_eq_true rfl) rfl (fun ls hl => ?_)
          refine g_goto (tgt := 7) G dX6_qTold_165 rfl ?_
          exact ih7 _ _ _ _ hf hM ls (lv_sub hl [1, 2, 0] rfl)
        refine g_icmp_lt (tgt := 42) G dX6_qTold_26 rfl (fun c2 => ?_) (fun c2 => ?_)
        · have hf := it_pos c2 hf
          refine g_iload_n G dX6_qTold_42 rfl (lv_at hl 0 rfl) ?_
          refine g_bipush (v := 60) G dX6_qTold_43 rfl ?_
          refine g_icmp_lt (tgt := 85) G dX6_qTold_45 rfl (fun c3 => ?_) (fun c3 => ?_)
          · have hf := it_pos c3 hf
            refine g_iload_n G dX6_qTold_85 rfl (lv_at hl 0 rfl) ?_
            refine g_bipush (v := 40) G dX6_qTold_86 rfl ?_
            refine g_icmp_lt (tgt := 110) G dX6_qTold_88 rfl (fun c4 => ?_) (fun c4 => ?_)
            · have hf := it_pos c4 hf
              refine g_iload_n G dX6_qTold_110 rfl (lv_at hl 0 rfl) ?_
              refine g_bipush (v := 13) G dX6_qTold_111 rfl ?_
              refine g_icmp_ne (tgt := 124) G dX6_qTold_113 rfl (fun c5 => ?_) (fun c5 => ?_)
              · have hf := it_neg c5 hf
                refine g_iload_n G dX6_qTold_124 rfl (lv_at hl 0 rfl) ?_
                refine g_bipush (v := 12) G dX6_qTold_125 rfl ?_
                refine g_icmp_ne (tgt := 157) G dX6_qTold_127 rfl (fun c6 => ?_) (fun c6 => ?_)
                · have hf := it_neg c6 hf
                  refine g_aload_n G dX6_qTold_157 rfl (lv_at hl 1 rfl) ?_
                  refine g_iload_n G dX6_qTold_158 rfl (lv_at hl 0 rfl) ?_
                  obtain ⟨z5, h1, hf⟩ := bnv_open hf
                  refine m_callVv (As := [.int (mA z3 93 (Int32.toNatClampNeg x1))]) (rest := []) X hM hl mc_qJoins (c_qJoins h1) rfl (Nat.le_of_ble_eq_true rfl) (Nat.le_of_ble_eq_true rfl) rfl dX6_qTold_159 (fun H locs hM => ?_)
                  exact J162 _ _ _ hf hM ls (lv_sub hl [1, 2, 3] rfl)
                · have hf := it_pos c6 hf
                  refine g_aload_n G dX6_qTold_130 rfl (lv_at hl 1 rfl) ?_
                  refine mg_a X hM mf_99 dX6_qTold_131 ?_
                  refine g_aload_n G dX6_qTold_134 rfl (lv_at hl 1 rfl) ?_
                  refine mg_i X hM mf_100 dX6_qTold_135 ?_
                  refine g_iconst (v := 1) G dX6_qTold_138 rfl ?_
                  refine g_isub G dX6_qTold_139 ?_
                  refine g_lconst (v := 1) G dX6_qTold_140 rfl ?_
                  refine g_aload_n G dX6_qTold_141 rfl (lv_at hl 1 rfl) ?_
                  refine mg_a X hM mf_99 dX6_qTold_142 ?_
                  refine g_aload_n G dX6_qTold_145 rfl (lv_at hl 1 rfl) ?_
                  refine mg_i X hM mf_100 dX6_qTold_146 ?_
                  refine g_iconst (v := 1) G dX6_qTold_149 rfl ?_
                  refine g_isub G dX6_qTold_150 ?_
                  obtain ⟨b2, hf⟩ := ck_open hf
                  refine m_lald X hM (mIs.of mf_99) b2 dX6_qTold_151 ?_
                  refine g_lsub G dX6_qTold_152 ?_
                  obtain ⟨b3, hf⟩ := ck_open hf
                  obtain ⟨z6, hz6, hf⟩ := nm_open hf
                  refine m_last X hM (mIs.of mf_99) b3 hz6 dX6_qTold_153 (fun H locs hM => ?_)
                  refine g_goto (tgt := 162) G dX6_qTold_154 rfl ?_
                  exact J162 _ _ _ hf hM ls (lv_sub hl [1, 2, 3] rfl)
              · have hf := it_pos c5 hf
                refine g_aload_n G dX6_qTold_116 rfl (lv_at hl 1 rfl) ?_
                refine g_lconst (v := 1) G dX6_qTold_117 rfl ?_
                obtain ⟨z7, h2, hf⟩ := bnv_open hf
                refine m_callVv (As := [.long 1]) (rest := []) X hM hl mc_qPuts (c_qPuts h2) rfl (Nat.le_of_ble_eq_true rfl) (Nat.le_of_ble_eq_true rfl) rfl dX6_qTold_118 (fun H locs hM => ?_)
                refine g_goto (tgt := 162) G dX6_qTold_121 rfl ?_
                exact J162 _ _ _ hf hM ls (lv_sub hl [1, 2, 3] rfl)
            · have hf := it_neg c4 hf
              refine g_aload_n G dX6_qTold_91 rfl (lv_at hl 1 rfl) ?_
              refine g_aload_n G dX6_qTold_92 rfl (lv_at hl 1 rfl) ?_
              refine g_iload_n G dX6_qTold_93 rfl (lv_at hl 0 rfl) ?_
              refine g_bipush (v := 40) G dX6_qTold_94 rfl ?_
              refine g_isub G dX6_qTold_96 ?_
              refine g_iload_n G dX6_qTold_97 rfl (lv_at hl 2 rfl) ?_
              obtain ⟨r1, z8, h3, hf⟩ := bnd_open hf
              refine m_callVi (As := [.int ((mA z3 93 (Int32.toNatClampNeg x1)) - 40), .int a1]) (rest := [.ref o]) X hM hl mc_qPartOf (c_qPartOf h3) rfl (Nat.le_of_ble_eq_true rfl) (Nat.le_of_ble_eq_true rfl) rfl dX6_qTold_98 (fun H locs hM => ?_)
              obtain ⟨r2, z9, h4, hf⟩ := bnd_open hf
              refine m_callSi (As := [.long r1]) (rest := [.ref o]) X hM hl mc_qClip (c_qClip h4) rfl (Nat.le_of_ble_eq_true rfl) (Nat.le_of_ble_eq_true rfl) rfl dX6_qTold_101 (fun H locs hM => ?_)
              obtain ⟨z10, h5, hf⟩ := bnv_open hf
              refine m_callVv (As := [.long r2]) (rest := []) X hM hl mc_qPuts (c_qPuts h5) rfl (Nat.le_of_ble_eq_true rfl) (Nat.le_of_ble_eq_true rfl) rfl dX6_qTold_104 (fun H locs hM => ?_)
              refine g_goto (tgt := 162) G dX6_qTold_107 rfl ?_
              exact J162 _ _ _ hf hM ls (lv_sub hl [1, 2, 3] rfl)
          · have hf := it_neg c3 hf
            refine g_aload_n G dX6_qTold_48 rfl (lv_at hl 1 rfl) ?_
            refine mg_a X hM mf_99 dX6_qTold_49 ?_
            refine g_aload_n G dX6_qTold_52 rfl (lv_at hl 1 rfl) ?_
            refine mg_i X hM mf_100 dX6_qTold_53 ?_
            refine g_iconst (v := 1) G dX6_qTold_56 rfl ?_
            refine g_isub G dX6_qTold_57 ?_
            refine g_aload_n G dX6_qTold_58 rfl (lv_at hl 1 rfl) ?_
            refine g_iload_n G dX6_qTold_59 rfl (lv_at hl 0 rfl) ?_
            refine g_bipush (v := 60) G dX6_qTold_60 rfl ?_
            refine g_isub G dX6_qTold_62 ?_
            refine g_aload_n G dX6_qTold_63 rfl (lv_at hl 1 rfl) ?_
            refine mg_a X hM mf_99 dX6_qTold_64 ?_
            refine g_aload_n G dX6_qTold_67 rfl (lv_at hl 1 rfl) ?_
            refine mg_i X hM mf_100 dX6_qTold_68 ?_
            refine g_iconst (v := 1) G dX6_qTold_71 rfl ?_
            refine g_isub G dX6_qTold_72 ?_
            obtain ⟨b4, hf⟩ := ck_open hf
            refine m_lald X hM (mIs.of mf_99) b4 dX6_qTold_73 ?_
            refine g_iload_n G dX6_qTold_74 rfl (lv_at hl 2 rfl) ?_
            obtain ⟨r3, z11, h6, hf⟩ := bnd_open hf
            refine m_callVi (As := [.int ((mA z3 93 (Int32.toNatClampNeg x1)) - 60), .long (mB z3 99 (Int32.toNatClampNeg ((mI z3 100) - 1))), .int a1]) (rest := [.int ((mI z3 100) - 1), .ref (ad 99)]) X hM hl mc_qOf (c_qOf h6) rfl (Nat.le_of_ble_eq_true rfl) (Nat.le_of_ble_eq_true rfl) rfl dX6_qTold_75 (fun H locs hM => ?_)
            obtain ⟨r4, z12, h7, hf⟩ := bnd_open hf
            refine m_callSi (As := [.long r3]) (rest := [.int ((mI z3 100) - 1), .ref (ad 99)]) X hM hl mc_qClip (c_qClip h7) rfl (Nat.le_of_ble_eq_true rfl) (Nat.le_of_ble_eq_true rfl) rfl dX6_qTold_78 (fun H locs hM => ?_)
            obtain ⟨b5, hf⟩ := ck_open hf
            obtain ⟨z13, hz13, hf⟩ := nm_open hf
            refine m_last X hM (mIs.of mf_99) b5 hz13 dX6_qTold_81 (fun H locs hM => ?_)
            refine g_goto (tgt := 162) G dX6_qTold_82 rfl ?_
            exact J162 _ _ _ hf hM ls (lv_sub hl [1, 2, 3] rfl)
        · have hf := it_neg c2 hf
          refine g_aload_n G dX6_qTold_29 rfl (lv_at hl 1 rfl) ?_
          refine g_iload_n G dX6_qTold_30 rfl (lv_at hl 0 rfl) ?_
          refine g_sipush (v := 1000) G dX6_qTold_31 rfl ?_
          refine g_isub G dX6_qTold_34 ?_
          refine g_i2l (v := Int32.toInt64 ((mA z3 93 (Int32.toNatClampNeg x1)) - 1000)) G dX6_qTold_35 rfl ?_
          obtain ⟨z14, h8, hf⟩ := bnv_open hf
          refine m_callVv (As := [.long (Int32.toInt64 ((mA z3 93 (Int32.toNatClampNeg x1)) - 1000))]) (rest := []) X hM hl mc_qPuts (c_qPuts h8) rfl (Nat.le_of_ble_eq_true rfl) (Nat.le_of_ble_eq_true rfl) rfl dX6_qTold_36 (fun H locs hM => ?_)
          refine g_goto (tgt := 162) G dX6_qTold_39 rfl ?_
          exact J162 _ _ _ hf hM ls (lv_sub hl [1, 2, 3] rfl)
  exact L7 FU _ _ _ _ hf hM ls (lv_sub hl [1, 2, 0] rfl)
theorem mc_qKind : mcV yX6_qKind cX6_qKind 2 (some .int) 0 642 := ⟨lw_V q2409 q2411 qs136 q157 q2412, ⟨rfl, by decide +kernel, by decide +kernel, by decide +kernel⟩, Nat.le_of_ble_eq_true rfl⟩
noncomputable def m_qKind (z : MS) : Option (Int32 × MS) :=
  bnd (m_takes 68 z) fun r1 z1 =>
  jn (fun (x1 : Int32) (z2 : MS) =>
    if x1 = 5 then
      bnv (m_asks 73 z2) fun z3 =>
      some (x1, z3)
    else
      some (x1, z2)) fun j76 =>
  if (bI r1) = 0 then
    bnd (m_takes 69 z1) fun r2 z4 =>
    if (bI r2) = 0 then
      bnd (m_takes 70 z4) fun r3 z5 =>
      if (bI r3) = 0 then
        bnd (m_takes 71 z5) fun r4 z6 =>
        if (bI r4) = 0 then
          bnd (m_takes 72 z6) fun r5 z7 =>
          if (bI r5) = 0 then
            j76 5 z7
          else
            j76 4 z7
        else
          j76 3 z6
      else
        j76 2 z5
    else
      j76 1 z4
  else
    j76 0 z1
set_option maxHeartbeats 1000000 in
theorem c_qKind {l : Launch} {D : MD} {o : Nat} {ad : Nat → Nat} {z z' : MS} {r : Int32} (hf : m_qKind z = some (r, z')) : MMet l D o ad yX6_qKind cX6_qKind 2 (some .int) 5 [.ref o] z z' (some (.int r)) := by
  unfold m_qKind at hf
  refine m_head pnX6 rfl (Nat.le_of_ble_eq_true rfl) (fun m Z H0 ls X hM hl => ?_)
  have G := X.g
  have hl : lv_has ls 2 [(0, .ref o)] := hl
  refine g_aload_n G dX6_qKind_0 rfl (lv_at hl 0 rfl) ?_
  refine g_aload_n G dX6_qKind_1 rfl (lv_at hl 0 rfl) ?_
  refine mg_a X hM mf_68 dX6_qKind_2 ?_
  obtain ⟨r1, z1, h1, hf⟩ := bnd_open hf
  refine m_callVi (As := [.ref (ad 68)]) (rest := []) X hM hl mc_takes (c_takes (mIs.of mf_68) h1) rfl (Nat.le_of_ble_eq_true rfl) (Nat.le_of_ble_eq_true rfl) rfl dX6_qKind_5 (fun H locs hM => ?_)
  obtain ⟨j76, hj76, hf⟩ := jn_open hf
  have J76 : ∀ (x1 : Int32) (z2 : MS) (H : Heap) (locs : List Loc), j76 x1 z2 = some (r, z') → MI D o ad H0 z2 H locs → ∀ ls : Array Slot, lv_has ls 2 [(0, .ref o)] → Z H locs 0 0 (F0 m 76 ls [.int x1]) := by
    intro x1 z2 H locs hf hM ls hl
    rw [hj76] at hf
    refine g_istore_n (lv' := [(1, .int x1), (0, .ref o)]) G dX6_qKind_76 rfl hl (Nat.le_of_ble_eq_true rfl) rfl (fun ls hl => ?_)
    refine g_iload_n G dX6_qKind_77 rfl (lv_at hl 0 rfl) ?_
    refine g_iconst (v := 5) G dX6_qKind_78 rfl ?_
    refine g_icmp_ne (tgt := 90) G dX6_qKind_79 rfl (fun c1 => ?_) (fun c1 => ?_)
    · have hf := it_neg c1 hf
      refine g_iload_n G dX6_qKind_90 rfl (lv_at hl 0 rfl) ?_
      exact m_iret X hM hf dX6_qKind_91
    · have hf := it_pos c1 hf
      refine g_aload_n G dX6_qKind_82 rfl (lv_at hl 1 rfl) ?_
      refine g_aload_n G dX6_qKind_83 rfl (lv_at hl 1 rfl) ?_
      refine mg_a X hM mf_73 dX6_qKind_84 ?_
      obtain ⟨z3, h2, hf⟩ := bnv_open hf
      refine m_callVv (As := [.ref (ad 73)]) (rest := []) X hM hl mc_asks (c_asks (mIs.of mf_73) h2) rfl (Nat.le_of_ble_eq_true rfl) (Nat.le_of_ble_eq_true rfl) rfl dX6_qKind_87 (fun H locs hM => ?_)
      refine g_iload_n G dX6_qKind_90 rfl (lv_at hl 0 rfl) ?_
      exact m_iret X hM hf dX6_qKind_91
  refine g_if_eq (tgt := 15) G dX6_qKind_8 rfl (fun c2 => ?_) (fun c2 => ?_)
  · have hf := it_pos c2 hf
    refine g_aload_n G dX6_qKind_15 rfl (lv_at hl 0 rfl) ?_
    refine g_aload_n G dX6_qKind_16 rfl (lv_at hl 0 rfl) ?_
    refine mg_a X hM mf_69 dX6_qKind_17 ?_
    obtain ⟨r2, z4, h3, hf⟩ := bnd_open hf
    refine m_callVi (As := [.ref (ad 69)]) (rest := []) X hM hl mc_takes (c_takes (mIs.of mf_69) h3) rfl (Nat.le_of_ble_eq_true rfl) (Nat.le_of_ble_eq_true rfl) rfl dX6_qKind_20 (fun H locs hM => ?_)
    refine g_if_eq (tgt := 30) G dX6_qKind_23 rfl (fun c3 => ?_) (fun c3 => ?_)
    · have hf := it_pos c3 hf
      refine g_aload_n G dX6_qKind_30 rfl (lv_at hl 0 rfl) ?_
      refine g_aload_n G dX6_qKind_31 rfl (lv_at hl 0 rfl) ?_
      refine mg_a X hM mf_70 dX6_qKind_32 ?_
      obtain ⟨r3, z5, h4, hf⟩ := bnd_open hf
      refine m_callVi (As := [.ref (ad 70)]) (rest := []) X hM hl mc_takes (c_takes (mIs.of mf_70) h4) rfl (Nat.le_of_ble_eq_true rfl) (Nat.le_of_ble_eq_true rfl) rfl dX6_qKind_35 (fun H locs hM => ?_)
      refine g_if_eq (tgt := 45) G dX6_qKind_38 rfl (fun c4 => ?_) (fun c4 => ?_)
      · have hf := it_pos c4 hf
        refine g_aload_n G dX6_qKind_45 rfl (lv_at hl 0 rfl) ?_
        refine g_aload_n G dX6_qKind_46 rfl (lv_at hl 0 rfl) ?_
        refine mg_a X hM mf_71 dX6_qKind_47 ?_
        obtain ⟨r4, z6, h5, hf⟩ := bnd_open hf
        refine m_callVi (As := [.ref (ad 71)]) (rest := []) X hM hl mc_takes (c_takes (mIs.of mf_71) h5) rfl (Nat.le_of_ble_eq_true rfl) (Nat.le_of_ble_eq_true rfl) rfl dX6_qKind_50 (fun H locs hM => ?_)
        refine g_if_eq (tgt := 60) G dX6_qKind_53 rfl (fun c5 => ?_) (fun c5 => ?_)
        · have hf := it_pos c5 hf
          refine g_aload_n G dX6_qKind_60 rfl (lv_at hl 0 rfl) ?_
          refine g_aload_n G dX6_qKind_61 rfl (lv_at hl 0 rfl) ?_
          refine mg_a X hM mf_72 dX6_qKind_62 ?_
          obtain ⟨r5, z7, h6, hf⟩ := bnd_open hf
          refine m_callVi (As := [.ref (ad 72)]) (rest := []) X hM hl mc_takes (c_takes (mIs.of mf_72) h6) rfl (Nat.le_of_ble_eq_true rfl) (Nat.le_of_ble_eq_true rfl) rfl dX6_qKind_65 (fun H locs hM => ?_)
          refine g_if_eq (tgt := 75) G dX6_qKind_68 rfl (fun c6 => ?_) (fun c6 => ?_)
          · have hf := it_pos c6 hf
            refine g_iconst (v := 5) G dX6_qKind_75 rfl ?_
            exact J76 _ _ _ _ hf hM ls (lv_sub hl [0] rfl)
          · have hf := it_neg c6 hf
            refine g_iconst (v := 4) G dX6_qKind_71 rfl ?_
            refine g_goto (tgt := 76) G dX6_qKind_72 rfl ?_
            exact J76 _ _ _ _ hf hM ls (lv_sub hl [0] rfl)
        · have hf := it_neg c5 hf
          refine g_iconst (v := 3) G dX6_qKind_56 rfl ?_
          refine g_goto (tgt := 76) G dX6_qKind_57 rfl ?_
          exact J76 _ _ _ _ hf hM ls (lv_sub hl [0] rfl)
      · have hf := it_neg c4 hf
        refine g_iconst (v := 2) G dX6_qKind_41 rfl ?_
        refine g_goto (tgt := 76) G dX6_qKind_42 rfl ?_
        exact J76 _ _ _ _ hf hM ls (lv_sub hl [0] rfl)
    · have hf := it_neg c3 hf
      refine g_iconst (v := 1) G dX6_qKind_26 rfl ?_
      refine g_goto (tgt := 76) G dX6_qKind_27 rfl ?_
      exact J76 _ _ _ _ hf hM ls (lv_sub hl [0] rfl)
  · have hf := it_neg c2 hf
    refine g_iconst (v := 0) G dX6_qKind_11 rfl ?_
    refine g_goto (tgt := 76) G dX6_qKind_12 rfl ?_
    exact J76 _ _ _ _ hf hM ls (lv_sub hl [0] rfl)
theorem mc_qTakes : mcV yX6_qTakes cX6_qTakes 6 (none) 3 649 := ⟨lw_V q2422 q2424 qs139 q157 q2425, ⟨rfl, by decide +kernel, by decide +kernel, by decide +kernel⟩, Nat.le_of_ble_eq_true rfl⟩
noncomputable def m_qTakes (a1 : Int32) (a2 : Int64) (a3 : Int32) (z : MS) : Option (MS) :=
  jn (fun (x1 : Bool) (z1 : MS) =>
    jn (fun (z2 : MS) =>
      jn (fun (z3 : MS) =>
        jn (fun (z4 : MS) =>
          jn (fun (z5 : MS) =>
            nm (wI z5 102 (bI false)) fun z6 =>
            some z6) fun j133 =>
          if a1 ≤ 3 then
            j133 z4
          else
            jn (fun (z7 : MS) =>
              nm (wL z7 101 a2) fun z8 =>
              j133 z8) fun j128 =>
            if (mI z4 102) = 0 then
              if a1 = 4 then
                if a2 ≤ (mL z4 101) then
                  j133 z4
                else
                  j128 z4
              else
                if (mL z4 101) ≤ a2 then
                  j133 z4
                else
                  j128 z4
            else
              j128 z4) fun j90 =>
        if a1 = 3 then
          nm (wL z3 101 ((mL z3 101) + a2)) fun z9 =>
          j90 z9
        else
          j90 z3) fun j75 =>
      if a1 = 2 then
        if (bI x1) = 0 then
          j75 z2
        else
          nm (wL z2 101 ((mL z2 101) + 1)) fun z10 =>
          j75 z10
      else
        j75 z2) fun j55 =>
    jn (fun (z11 : MS) =>
      nm (wL z11 101 (Int32.toInt64 a3)) fun z12 =>
      j55 z12) fun j48 =>
    jn (fun (z13 : MS) =>
      if a1 = 1 then
        if (bI x1) = 0 then
          j55 z13
        else
          j48 z13
      else
        j55 z13) fun j38 =>
    if a1 = 0 then
      if (bI x1) = 0 then
        j38 z1
      else
        if (mL z1 101) = ((-1)) then
          j48 z1
        else
          j38 z1
    else
      j38 z1) fun j16 =>
  jn (fun (z14 : MS) =>
    j16 false z14) fun j15 =>
  if 3 ≤ a1 then
    j15 z
  else
    if a2 = 1 then
      j16 true z
    else
      j15 z
set_option maxHeartbeats 1000000 in
theorem c_qTakes {l : Launch} {D : MD} {o : Nat} {ad : Nat → Nat} {a1 : Int32} {a2 : Int64} {a3 : Int32} {z z' : MS} (hf : m_qTakes a1 a2 a3 z = some z') : MMet l D o ad yX6_qTakes cX6_qTakes 6 (none) 1 [.ref o, .int a1, .long a2, .int a3] z z' (none) := by
  unfold m_qTakes at hf
  refine m_head pnX6 rfl (Nat.le_of_ble_eq_true rfl) (fun m Z H0 ls X hM hl => ?_)
  have G := X.g
  have hl : lv_has ls 6 [(0, .ref o), (1, .int a1), (2, .long a2), (4, .int a3)] := hl
  refine g_iload_n G dX6_qTakes_0 rfl (lv_at hl 1 rfl) ?_
  refine g_iconst (v := 3) G dX6_qTakes_1 rfl ?_
  obtain ⟨j16, hj16, hf⟩ := jn_open hf
  have J16 : ∀ (x1 : Bool) (z1 : MS) (H : Heap) (locs : List Loc), j16 x1 z1 = some z' → MI D o ad H0 z1 H locs → ∀ ls : Array Slot, lv_has ls 6 [(0, .ref o), (1, .int a1), (2, .long a2), (4, .int a3)] → Z H locs 0 0 (F0 m 16 ls [.int (bI x1)]) := by
    intro x1 z1 H locs hf hM ls hl
    rw [hj16] at hf
    refine g_istore (lv' := [(5, .int (bI x1)), (0, .ref o), (1, .int a1), (2, .long a2), (4, .int a3)]) G dX6_qTakes_16 hl (Nat.le_of_ble_eq_true rfl) rfl (fun ls hl => ?_)
    refine g_iload_n G dX6_qTakes_18 rfl (lv_at hl 2 rfl) ?_
    obtain ⟨j55, hj55, hf⟩ := jn_open hf
    have J55 : ∀ (z2 : MS) (H : Heap) (locs : List Loc), j55 z2 = some z' → MI D o ad H0 z2 H locs → ∀ ls : Array Slot, lv_has ls 6 [(0, .ref o), (1, .int a1), (2, .long a2), (5, .int (bI x1))] → Z H locs 0 0 (F0 m 55 ls []) := by
      intro z2 H locs hf hM ls hl
      rw [hj55] at hf
      refine g_iload_n G dX6_qTakes_55 rfl (lv_at hl 1 rfl) ?_
      refine g_iconst (v := 2) G dX6_qTakes_56 rfl ?_
      obtain ⟨j75, hj75, hf⟩ := jn_open hf
      have J75 : ∀ (z3 : MS) (H : Heap) (locs : List Loc), j75 z3 = some z' → MI D o ad H0 z3 H locs → ∀ ls : Array Slot, lv_has ls 6 [(0, .ref o), (1, .int a1), (2, .long a2)] → Z H locs 0 0 (F0 m 75 ls []) := by
        intro z3 H locs hf hM ls hl
        rw [hj75] at hf
        refine g_iload_n G dX6_qTakes_75 rfl (lv_at hl 1 rfl) ?_
        refine g_iconst (v := 3) G dX6_qTakes_76 rfl ?_
        obtain ⟨j90, hj90, hf⟩ := jn_open hf
        have J90 : ∀ (z4 : MS) (H : Heap) (locs : List Loc), j90 z4 = some z' → MI D o ad H0 z4 H locs → ∀ ls : Array Slot, lv_has ls 6 [(0, .ref o), (1, .int a1), (2, .long a2)] → Z H locs 0 0 (F0 m 90 ls []) := by
          intro z4 H locs hf hM ls hl
          rw [hj90] at hf
          refine g_iload_n G dX6_qTakes_90 rfl (lv_at hl 1 rfl) ?_
          refine g_iconst (v := 3) G dX6_qTakes_91 rfl ?_
          obtain ⟨j133, hj133, hf⟩ := jn_open hf
          have J133 : ∀ (z5 : MS) (H : Heap) (locs : List Loc), j133 z5 = some z' → MI D o ad H0 z5 H locs → ∀ ls : Array Slot, lv_has ls 6 [(0, .ref o)] → Z H locs 0 0 (F0 m 133 ls []) := by
            intro z5 H locs hf hM ls hl
            rw [hj133] at hf
            refine g_aload_n G dX6_qTakes_133 rfl (lv_at hl 0 rfl) ?_
            refine g_iconst (v := 0) G dX6_qTakes_134 rfl ?_
            obtain ⟨z6, hz6, hf⟩ := nm_open hf
            refine mp_z (b := false) X hM mf_102 hz6 dX6_qTakes_135 (fun H locs hM => ?_)
            exact m_vret X hM hf dX6_qTakes_138
          refine g_icmp_le (tgt := 133) G dX6_qTakes_92 rfl (fun c1 => ?_) (fun c1 => ?_)
          · have hf := it_pos c1 hf
            exact J133 _ _ _ hf hM ls (lv_sub hl [0] rfl)
          · have hf := it_neg c1 hf
            refine g_aload_n G dX6_qTakes_95 rfl (lv_at hl 0 rfl) ?_
            refine mg_z X hM mf_102 dX6_qTakes_96 ?_
            obtain ⟨j128, hj128, hf⟩ := jn_open hf
            have J128 : ∀ (z7 : MS) (H : Heap) (locs : List Loc), j128 z7 = some z' → MI D o ad H0 z7 H locs → ∀ ls : Array Slot, lv_has ls 6 [(0, .ref o), (2, .long a2)] → Z H locs 0 0 (F0 m 128 ls []) := by
              intro z7 H locs hf hM ls hl
              rw [hj128] at hf
              refine g_aload_n G dX6_qTakes_128 rfl (lv_at hl 0 rfl) ?_
              refine g_lload_n G dX6_qTakes_129 rfl (lv_at hl 1 rfl) ?_
              obtain ⟨z8, hz8, hf⟩ := nm_open hf
              refine mp_l X hM mf_101 hz8 dX6_qTakes_130 (fun H locs hM => ?_)
              exact J133 _ _ _ hf hM ls (lv_sub hl [0] rfl)
            refine g_if_ne (tgt := 128) G dX6_qTakes_99 rfl (fun c2 => ?_) (fun c2 => ?_)
            · have hf := it_neg c2 hf
              exact J128 _ _ _ hf hM ls (lv_sub hl [0, 2] rfl)
            · have hf := it_pos c2 hf
              refine g_iload_n G dX6_qTakes_102 rfl (lv_at hl 1 rfl) ?_
              refine g_iconst (v := 4) G dX6_qTakes_103 rfl ?_
              refine g_icmp_ne (tgt := 119) G dX6_qTakes_104 rfl (fun c3 => ?_) (fun c3 => ?_)
              · have hf := it_neg c3 hf
                refine g_lload_n G dX6_qTakes_119 rfl (lv_at hl 2 rfl) ?_
                refine g_aload_n G dX6_qTakes_120 rfl (lv_at hl 0 rfl) ?_
                refine mg_l X hM mf_101 dX6_qTakes_121 ?_
                refine g_lc_ge (tgt := 133) G dX6_qTakes_124 dX6_qTakes_125 rfl (fun c4 => ?_) (fun c4 => ?_)
                · have hf := it_pos c4 hf
                  exact J133 _ _ _ hf hM ls (lv_sub hl [0] rfl)
                · have hf := it_neg c4 hf
                  exact J128 _ _ _ hf hM ls (lv_sub hl [0, 2] rfl)
              · have hf := it_pos c3 hf
                refine g_lload_n G dX6_qTakes_107 rfl (lv_at hl 2 rfl) ?_
                refine g_aload_n G dX6_qTakes_108 rfl (lv_at hl 0 rfl) ?_
                refine mg_l X hM mf_101 dX6_qTakes_109 ?_
                refine g_lc_le (tgt := 133) G dX6_qTakes_112 dX6_qTakes_113 rfl (fun c5 => ?_) (fun c5 => ?_)
                · have hf := it_pos c5 hf
                  exact J133 _ _ _ hf hM ls (lv_sub hl [0] rfl)
                · have hf := it_neg c5 hf
                  refine g_goto (tgt := 128) G dX6_qTakes_116 rfl ?_
                  exact J128 _ _ _ hf hM ls (lv_sub hl [0, 2] rfl)
        refine g_icmp_ne (tgt := 90) G dX6_qTakes_77 rfl (fun c6 => ?_) (fun c6 => ?_)
        · have hf := it_neg c6 hf
          exact J90 _ _ _ hf hM ls (lv_sub hl [0, 1, 2] rfl)
        · have hf := it_pos c6 hf
          refine g_aload_n G dX6_qTakes_80 rfl (lv_at hl 0 rfl) ?_
          refine g_dup G dX6_qTakes_81 rfl ?_
          refine mg_l X hM mf_101 dX6_qTakes_82 ?_
          refine g_lload_n G dX6_qTakes_85 rfl (lv_at hl 2 rfl) ?_
          refine g_ladd G dX6_qTakes_86 ?_
          obtain ⟨z9, hz9, hf⟩ := nm_open hf
          refine mp_l X hM mf_101 hz9 dX6_qTakes_87 (fun H locs hM => ?_)
          exact J90 _ _ _ hf hM ls (lv_sub hl [0, 1, 2] rfl)
      refine g_icmp_ne (tgt := 75) G dX6_qTakes_57 rfl (fun c7 => ?_) (fun c7 => ?_)
      · have hf := it_neg c7 hf
        exact J75 _ _ _ hf hM ls (lv_sub hl [0, 1, 2] rfl)
      · have hf := it_pos c7 hf
        refine g_iload G dX6_qTakes_60 (lv_at hl 3 rfl) ?_
        refine g_if_eq (tgt := 75) G dX6_qTakes_62 rfl (fun c8 => ?_) (fun c8 => ?_)
        · have hf := it_pos c8 hf
          exact J75 _ _ _ hf hM ls (lv_sub hl [0, 1, 2] rfl)
        · have hf := it_neg c8 hf
          refine g_aload_n G dX6_qTakes_65 rfl (lv_at hl 0 rfl) ?_
          refine g_dup G dX6_qTakes_66 rfl ?_
          refine mg_l X hM mf_101 dX6_qTakes_67 ?_
          refine g_lconst (v := 1) G dX6_qTakes_70 rfl ?_
          refine g_ladd G dX6_qTakes_71 ?_
          obtain ⟨z10, hz10, hf⟩ := nm_open hf
          refine mp_l X hM mf_101 hz10 dX6_qTakes_72 (fun H locs hM => ?_)
          exact J75 _ _ _ hf hM ls (lv_sub hl [0, 1, 2] rfl)
    obtain ⟨j48, hj48, hf⟩ := jn_open hf
    have J48 : ∀ (z11 : MS) (H : Heap) (locs : List Loc), j48 z11 = some z' → MI D o ad H0 z11 H locs → ∀ ls : Array Slot, lv_has ls 6 [(0, .ref o), (1, .int a1), (2, .long a2), (4, .int a3), (5, .int (bI x1))] → Z H locs 0 0 (F0 m 48 ls []) := by
      intro z11 H locs hf hM ls hl
      rw [hj48] at hf
      refine g_aload_n G dX6_qTakes_48 rfl (lv_at hl 0 rfl) ?_
      refine g_iload G dX6_qTakes_49 (lv_at hl 3 rfl) ?_
      refine g_i2l (v := Int32.toInt64 a3) G dX6_qTakes_51 rfl ?_
      obtain ⟨z12, hz12, hf⟩ := nm_open hf
      refine mp_l X hM mf_101 hz12 dX6_qTakes_52 (fun H locs hM => ?_)
      exact J55 _ _ _ hf hM ls (lv_sub hl [0, 1, 2, 4] rfl)
    obtain ⟨j38, hj38, hf⟩ := jn_open hf
    have J38 : ∀ (z13 : MS) (H : Heap) (locs : List Loc), j38 z13 = some z' → MI D o ad H0 z13 H locs → ∀ ls : Array Slot, lv_has ls 6 [(0, .ref o), (1, .int a1), (2, .long a2), (4, .int a3), (5, .int (bI x1))] → Z H locs 0 0 (F0 m 38 ls []) := by
      intro z13 H locs hf hM ls hl
      rw [hj38] at hf
      refine g_iload_n G dX6_qTakes_38 rfl (lv_at hl 1 rfl) ?_
      refine g_iconst (v := 1) G dX6_qTakes_39 rfl ?_
      refine g_icmp_ne (tgt := 55) G dX6_qTakes_40 rfl (fun c9 => ?_) (fun c9 => ?_)
      · have hf := it_neg c9 hf
        exact J55 _ _ _ hf hM ls (lv_sub hl [0, 1, 2, 4] rfl)
      · have hf := it_pos c9 hf
        refine g_iload G dX6_qTakes_43 (lv_at hl 4 rfl) ?_
        refine g_if_eq (tgt := 55) G dX6_qTakes_45 rfl (fun c10 => ?_) (fun c10 => ?_)
        · have hf := it_pos c10 hf
          exact J55 _ _ _ hf hM ls (lv_sub hl [0, 1, 2, 4] rfl)
        · have hf := it_neg c10 hf
          exact J48 _ _ _ hf hM ls (lv_sub hl [0, 1, 2, 3, 4] rfl)
    refine g_if_ne (tgt := 38) G dX6_qTakes_19 rfl (fun c11 => ?_) (fun c11 => ?_)
    · have hf := it_neg c11 hf
      exact J38 _ _ _ hf hM ls (lv_sub hl [1, 2, 3, 4, 0] rfl)
    · have hf := it_pos c11 hf
      refine g_iload G dX6_qTakes_22 (lv_at hl 0 rfl) ?_
      refine g_if_eq (tgt := 38) G dX6_qTakes_24 rfl (fun c12 => ?_) (fun c12 => ?_)
      · have hf := it_pos c12 hf
        exact J38 _ _ _ hf hM ls (lv_sub hl [1, 2, 3, 4, 0] rfl)
      · have hf := it_neg c12 hf
        refine g_aload_n G dX6_qTakes_27 rfl (lv_at hl 1 rfl) ?_
        refine mg_l X hM mf_101 dX6_qTakes_28 ?_
        refine g_ldc2 G q2413 dX6_qTakes_31 ?_
        refine g_lc_eq (tgt := 48) G dX6_qTakes_34 dX6_qTakes_35 rfl (fun c13 => ?_) (fun c13 => ?_)
        · have hf := it_pos c13 hf
          exact J48 _ _ _ hf hM ls (lv_sub hl [1, 2, 3, 4, 0] rfl)
        · have hf := it_neg c13 hf
          exact J38 _ _ _ hf hM ls (lv_sub hl [1, 2, 3, 4, 0] rfl)
  obtain ⟨j15, hj15, hf⟩ := jn_open hf
  have J15 : ∀ (z14 : MS) (H : Heap) (locs : List Loc), j15 z14 = some z' → MI D o ad H0 z14 H locs → ∀ ls : Array Slot, lv_has ls 6 [(0, .ref o), (1, .int a1), (2, .long a2), (4, .int a3)] → Z H locs 0 0 (F0 m 15 ls []) := by
    intro z14 H locs hf hM ls hl
    rw [hj15] at hf
    refine g_iconst (v := 0) G dX6_qTakes_15 rfl ?_
    exact J16 _ _ _ _ hf hM ls (lv_sub hl [0, 1, 2, 3] rfl)
  refine g_icmp_ge (tgt := 15) G dX6_qTakes_2 rfl (fun c14 => ?_) (fun c14 => ?_)
  · have hf := it_pos c14 hf
    exact J15 _ _ _ hf hM ls (lv_sub hl [0, 1, 2, 3] rfl)
  · have hf := it_neg c14 hf
    refine g_lload_n G dX6_qTakes_5 rfl (lv_at hl 2 rfl) ?_
    refine g_lconst (v := 1) G dX6_qTakes_6 rfl ?_
    refine g_lc_ne (tgt := 15) G dX6_qTakes_7 dX6_qTakes_8 rfl (fun c15 => ?_) (fun c15 => ?_)
    · have hf := it_neg c15 hf
      exact J15 _ _ _ hf hM ls (lv_sub hl [0, 1, 2, 3] rfl)
    · have hf := it_pos c15 hf
      refine g_iconst (v := 1) G dX6_qTakes_11 rfl ?_
      refine g_goto (tgt := 16) G dX6_qTakes_12 rfl ?_
      exact J16 _ _ _ _ hf hM ls (lv_sub hl [0, 1, 2, 3] rfl)
noncomputable def m_ask_L189 (r2 : Int32) (k214 : MS → Option (Int64 × MS)) (s189 : Int32 → MS → Option (Int64 × MS)) (x2 : Int32) (z23 : MS) : Option (Int64 × MS) :=
  bnd (m_factMany z23) fun r3 z24 =>
  if r3 ≤ x2 then
    k214 z24
  else
    bnd (m_qTold x2 z24) fun r4 z25 =>
    bnv (m_qTakes r2 r4 x2 z25) fun z26 =>
    s189 (x2 + 1) z26
noncomputable def m_ask (a1 : Int32) (z : MS) : Option (Int64 × MS) :=
  bnd (m_isPerson a1 z) fun r1 z1 =>
  if (bI r1) = 0 then
    nm (wI z1 1 0) fun z32 =>
    some (((-1000000000000000)), z32)
  else
    nm (wI z1 3 (mI z1 1)) fun z2 =>
    nm (wI z2 1 0) fun z3 =>
    nm (wI z3 2 0) fun z4 =>
    nm (wI z4 4 (-1)) fun z5 =>
    nm (wI z5 5 0) fun z6 =>
    nm (wI z6 6 (-1)) fun z7 =>
    nm (wI z7 52 2) fun z8 =>
    nm (wI z8 94 0) fun z9 =>
    nm (wI z9 96 0) fun z10 =>
    nm (wI z10 97 0) fun z11 =>
    nm (wI z11 98 0) fun z12 =>
    bnd (m_qKind z12) fun r2 z13 =>
    jn (fun (z14 : MS) =>
      jn (fun (z15 : MS) =>
        nm (wI z15 7 (mI z15 5)) fun z16 =>
        nm (wI z16 8 (mI z16 6)) fun z17 =>
        if (mI z17 5) = 0 then
          jn (fun (x1 : Int64) (z18 : MS) =>
            nm (wL z18 101 x1) fun z19 =>
            nm (wI z19 102 (bI true)) fun z20 =>
            nm (wI z20 55 a1) fun z21 =>
            jn (fun (z22 : MS) =>
              some ((mL z22 101), z22)) fun k214 =>
            fx (m_ask_L189 r2 k214) (fun _ _ => none) FU 0 z21) fun j174 =>
          if 2 ≤ r2 then
            j174 0 z17
          else
            j174 ((-1)) z17
        else
          some (((-1000000000000000)), z17)) fun j134 =>
      if (mI z14 5) = 0 then
        bnd (m_look z14) fun r5 z27 =>
        if r5 = (-1) then
          j134 z27
        else
          bnv (m_fail 1 (mI z27 2) z27) fun z28 =>
          j134 z28
      else
        j134 z14) fun j110 =>
    jn (fun (z29 : MS) =>
      if (mI z29 5) = 0 then
        bnv (m_qSums z29) fun z30 =>
        j110 z30
      else
        j110 z29) fun j99 =>
    if (mI z13 5) = 0 then
      if 3 ≤ r2 then
        j99 z13
      else
        bnv (m_qTest z13) fun z31 =>
        j110 z31
    else
      j99 z13
set_option maxHeartbeats 1000000 in
theorem c_ask {l : Launch} {D : MD} {o : Nat} {ad : Nat → Nat} {a1 : Int32} {z z' : MS} {r : Int64} (hf : m_ask a1 z = some (r, z')) : MMet l D o ad yX6_ask cX6_ask 4 (some .long) 10 [.ref o, .int a1] z z' (some (.long r)) := by
  unfold m_ask at hf
  refine m_head pnX6 rfl (Nat.le_of_ble_eq_true rfl) (fun m Z H0 ls X hM hl => ?_)
  have G := X.g
  have hl : lv_has ls 4 [(0, .ref o), (1, .int a1)] := hl
  refine g_aload_n G dX6_ask_0 rfl (lv_at hl 0 rfl) ?_
  refine g_iload_n G dX6_ask_1 rfl (lv_at hl 1 rfl) ?_
  obtain ⟨r1, z1, h1, hf⟩ := bnd_open hf
  refine m_callVi (As := [.int a1]) (rest := []) X hM hl mc_isPerson (c_isPerson h1) rfl (Nat.le_of_ble_eq_true rfl) (Nat.le_of_ble_eq_true rfl) rfl dX6_ask_2 (fun H locs hM => ?_)
  refine g_if_ne (tgt := 17) G dX6_ask_5 rfl (fun c1 => ?_) (fun c1 => ?_)
  · have hf := it_neg c1 hf
    refine g_aload_n G dX6_ask_17 rfl (lv_at hl 0 rfl) ?_
    refine g_aload_n G dX6_ask_18 rfl (lv_at hl 0 rfl) ?_
    refine mg_i X hM mf_1 dX6_ask_19 ?_
    obtain ⟨z2, hz2, hf⟩ := nm_open hf
    refine mp_i X hM mf_3 hz2 dX6_ask_22 (fun H locs hM => ?_)
    refine g_aload_n G dX6_ask_25 rfl (lv_at hl 0 rfl) ?_
    refine g_iconst (v := 0) G dX6_ask_26 rfl ?_
    obtain ⟨z3, hz3, hf⟩ := nm_open hf
    refine mp_i X hM mf_1 hz3 dX6_ask_27 (fun H locs hM => ?_)
    refine g_aload_n G dX6_ask_30 rfl (lv_at hl 0 rfl) ?_
    refine g_iconst (v := 0) G dX6_ask_31 rfl ?_
    obtain ⟨z4, hz4, hf⟩ := nm_open hf
    refine mp_i X hM mf_2 hz4 dX6_ask_32 (fun H locs hM => ?_)
    refine g_aload_n G dX6_ask_35 rfl (lv_at hl 0 rfl) ?_
    refine g_iconst (v := (-1)) G dX6_ask_36 rfl ?_
    obtain ⟨z5, hz5, hf⟩ := nm_open hf
    refine mp_i X hM mf_4 hz5 dX6_ask_37 (fun H locs hM => ?_)
    refine g_aload_n G dX6_ask_40 rfl (lv_at hl 0 rfl) ?_
    refine g_iconst (v := 0) G dX6_ask_41 rfl ?_
    obtain ⟨z6, hz6, hf⟩ := nm_open hf
    refine mp_i X hM mf_5 hz6 dX6_ask_42 (fun H locs hM => ?_)
    refine g_aload_n G dX6_ask_45 rfl (lv_at hl 0 rfl) ?_
    refine g_iconst (v := (-1)) G dX6_ask_46 rfl ?_
    obtain ⟨z7, hz7, hf⟩ := nm_open hf
    refine mp_i X hM mf_6 hz7 dX6_ask_47 (fun H locs hM => ?_)
    refine g_aload_n G dX6_ask_50 rfl (lv_at hl 0 rfl) ?_
    refine g_iconst (v := 2) G dX6_ask_51 rfl ?_
    obtain ⟨z8, hz8, hf⟩ := nm_open hf
    refine mp_i X hM mf_52 hz8 dX6_ask_52 (fun H locs hM => ?_)
    refine g_aload_n G dX6_ask_55 rfl (lv_at hl 0 rfl) ?_
    refine g_iconst (v := 0) G dX6_ask_56 rfl ?_
    obtain ⟨z9, hz9, hf⟩ := nm_open hf
    refine mp_i X hM mf_94 hz9 dX6_ask_57 (fun H locs hM => ?_)
    refine g_aload_n G dX6_ask_60 rfl (lv_at hl 0 rfl) ?_
    refine g_iconst (v := 0) G dX6_ask_61 rfl ?_
    obtain ⟨z10, hz10, hf⟩ := nm_open hf
    refine mp_i X hM mf_96 hz10 dX6_ask_62 (fun H locs hM => ?_)
    refine g_aload_n G dX6_ask_65 rfl (lv_at hl 0 rfl) ?_
    refine g_iconst (v := 0) G dX6_ask_66 rfl ?_
    obtain ⟨z11, hz11, hf⟩ := nm_open hf
    refine mp_i X hM mf_97 hz11 dX6_ask_67 (fun H locs hM => ?_)
    refine g_aload_n G dX6_ask_70 rfl (lv_at hl 0 rfl) ?_
    refine g_iconst (v := 0) G dX6_ask_71 rfl ?_
    obtain ⟨z12, hz12, hf⟩ := nm_open hf
    refine mp_i X hM mf_98 hz12 dX6_ask_72 (fun H locs hM => ?_)
    refine g_aload_n G dX6_ask_75 rfl (lv_at hl 0 rfl) ?_
    obtain ⟨r2, z13, h2, hf⟩ := bnd_open hf
    refine m_callVi (As := []) (rest := []) X hM hl mc_qKind (c_qKind h2) rfl (Nat.le_of_ble_eq_true rfl) (Nat.le_of_ble_eq_true rfl) rfl dX6_ask_76 (fun H locs hM => ?_)
    refine g_istore_n (lv' := [(2, .int r2), (0, .ref o), (1, .int a1)]) G dX6_ask_79 rfl hl (Nat.le_of_ble_eq_true rfl) rfl (fun ls hl => ?_)
    refine g_aload_n G dX6_ask_80 rfl (lv_at hl 1 rfl) ?_
    refine mg_i X hM mf_5 dX6_ask_81 ?_
    obtain ⟨j110, hj110, hf⟩ := jn_open hf
    have J110 : ∀ (z14 : MS) (H : Heap) (locs : List Loc), j110 z14 = some (r, z') → MI D o ad H0 z14 H locs → ∀ ls : Array Slot, lv_has ls 4 [(0, .ref o), (1, .int a1), (2, .int r2)] → Z H locs 0 0 (F0 m 110 ls []) := by
      intro z14 H locs hf hM ls hl
      rw [hj110] at hf
      refine g_aload_n G dX6_ask_110 rfl (lv_at hl 0 rfl) ?_
      refine mg_i X hM mf_5 dX6_ask_111 ?_
      obtain ⟨j134, hj134, hf⟩ := jn_open hf
      have J134 : ∀ (z15 : MS) (H : Heap) (locs : List Loc), j134 z15 = some (r, z') → MI D o ad H0 z15 H locs → ∀ ls : Array Slot, lv_has ls 4 [(0, .ref o), (1, .int a1), (2, .int r2)] → Z H locs 0 0 (F0 m 134 ls []) := by
        intro z15 H locs hf hM ls hl
        rw [hj134] at hf
        refine g_aload_n G dX6_ask_134 rfl (lv_at hl 0 rfl) ?_
        refine g_aload_n G dX6_ask_135 rfl (lv_at hl 0 rfl) ?_
        refine mg_i X hM mf_5 dX6_ask_136 ?_
        obtain ⟨z16, hz16, hf⟩ := nm_open hf
        refine mp_i X hM mf_7 hz16 dX6_ask_139 (fun H locs hM => ?_)
        refine g_aload_n G dX6_ask_142 rfl (lv_at hl 0 rfl) ?_
        refine g_aload_n G dX6_ask_143 rfl (lv_at hl 0 rfl) ?_
        refine mg_i X hM mf_6 dX6_ask_144 ?_
        obtain ⟨z17, hz17, hf⟩ := nm_open hf
        refine mp_i X hM mf_8 hz17 dX6_ask_147 (fun H locs hM => ?_)
        refine g_aload_n G dX6_ask_150 rfl (lv_at hl 0 rfl) ?_
        refine mg_i X hM mf_5 dX6_ask_151 ?_
        refine g_if_eq (tgt := 161) G dX6_ask_154 rfl (fun c2 => ?_) (fun c2 => ?_)
        · have hf := it_pos c2 hf
          refine g_aload_n G dX6_ask_161 rfl (lv_at hl 0 rfl) ?_
          refine g_iload_n G dX6_ask_162 rfl (lv_at hl 2 rfl) ?_
          refine g_iconst (v := 2) G dX6_ask_163 rfl ?_
          obtain ⟨j174, hj174, hf⟩ := jn_open hf
          have J174 : ∀ (x1 : Int64) (z18 : MS) (H : Heap) (locs : List Loc), j174 x1 z18 = some (r, z') → MI D o ad H0 z18 H locs → ∀ ls : Array Slot, lv_has ls 4 [(0, .ref o), (1, .int a1), (2, .int r2)] → Z H locs 0 0 (F0 m 174 ls [.long x1, .ref o]) := by
            intro x1 z18 H locs hf hM ls hl
            rw [hj174] at hf
            obtain ⟨z19, hz19, hf⟩ := nm_open hf
            refine mp_l X hM mf_101 hz19 dX6_ask_174 (fun H locs hM => ?_)
            refine g_aload_n G dX6_ask_177 rfl (lv_at hl 0 rfl) ?_
            refine g_iconst (v := 1) G dX6_ask_178 rfl ?_
            obtain ⟨z20, hz20, hf⟩ := nm_open hf
            refine mp_z (b := true) X hM mf_102 hz20 dX6_ask_179 (fun H locs hM => ?_)
            refine g_aload_n G dX6_ask_182 rfl (lv_at hl 0 rfl) ?_
            refine g_iload_n G dX6_ask_183 rfl (lv_at hl 1 rfl) ?_
            obtain ⟨z21, hz21, hf⟩ := nm_open hf
            refine mp_i X hM mf_55 hz21 dX6_ask_184 (fun H locs hM => ?_)
            refine g_iconst (v := 0) G dX6_ask_187 rfl ?_
            refine g_istore_n (lv' := [(3, .int 0), (0, .ref o), (1, .int a1), (2, .int r2)]) G dX6_ask_188 rfl hl (Nat.le_of_ble_eq_true rfl) rfl (fun ls hl => ?_)
            obtain ⟨k214, hk214, hf⟩ := jn_open hf
            have K214 : ∀ (z22 : MS) (H : Heap) (locs : List Loc), k214 z22 = some (r, z') → MI D o ad H0 z22 H locs → ∀ ls : Array Slot, lv_has ls 4 [(0, .ref o)] → Z H locs 0 0 (F0 m 214 ls []) := by
              intro z22 H locs hf hM ls hl
              rw [hk214] at hf
              refine g_aload_n G dX6_ask_214 rfl (lv_at hl 0 rfl) ?_
              refine mg_l X hM mf_101 dX6_ask_215 ?_
              exact m_lret X hM hf dX6_ask_218
            have L189 : ∀ (n : Nat) (x2 : Int32) (z23 : MS) (H : Heap) (locs : List Loc), fx (m_ask_L189 r2 k214) (fun _ _ => none) n x2 z23 = some (r, z') → MI D o ad H0 z23 H locs → ∀ ls : Array Slot, lv_has ls 4 [(0, .ref o), (2, .int r2), (3, .int x2)] → Z H locs 0 0 (F0 m 189 ls []) := by
              intro n
              induction n with
              | zero => intro x2 z23 H locs hf; exact absurd hf (by intro q; cases q)
              | succ n ih189 =>
                intro x2 z23 H locs hf hM ls hl
                rw [fx_s] at hf
                generalize fx (m_ask_L189 r2 k214) (fun _ _ => none) n = s189 at hf ih189
                unfold m_ask_L189 at hf
                refine g_iload_n G dX6_ask_189 rfl (lv_at hl 2 rfl) ?_
                refine g_aload_n G dX6_ask_190 rfl (lv_at hl 0 rfl) ?_
                obtain ⟨r3, z24, h3, hf⟩ := bnd_open hf
                refine m_callVi (As := []) (rest := [.int x2]) X hM hl mc_factMany (c_factMany h3) rfl (Nat.le_of_ble_eq_true rfl) (Nat.le_of_ble_eq_true rfl) rfl dX6_ask_191 (fun H locs hM => ?_)
                refine g_icmp_ge (tgt := 214) G dX6_ask_194 rfl (fun c3 => ?_) (fun c3 => ?_)
                · have hf := it_pos c3 hf
                  exact K214 _ _ _ hf hM ls (lv_sub hl [0] rfl)
                · have hf := it_neg c3 hf
                  refine g_aload_n G dX6_ask_197 rfl (lv_at hl 0 rfl) ?_
                  refine g_iload_n G dX6_ask_198 rfl (lv_at hl 1 rfl) ?_
                  refine g_aload_n G dX6_ask_199 rfl (lv_at hl 0 rfl) ?_
                  refine g_iload_n G dX6_ask_200 rfl (lv_at hl 2 rfl) ?_
                  obtain ⟨r4, z25, h4, hf⟩ := bnd_open hf
                  refine m_callVi (As := [.int x2]) (rest := [.int r2, .ref o]) X hM hl mc_qTold (c_qTold h4) rfl (Nat.le_of_ble_eq_true rfl) (Nat.le_of_ble_eq_true rfl) rfl dX6_ask_201 (fun H locs hM => ?_)
                  refine g_iload_n G dX6_ask_204 rfl (lv_at hl 2 rfl) ?_
                  obtain ⟨z26, h5, hf⟩ := bnv_open hf
                  refine m_callVv (As := [.int r2, .long r4, .int x2]) (rest := []) X hM hl mc_qTakes (c_qTakes h5) rfl (Nat.le_of_ble_eq_true rfl) (Nat.le_of_ble_eq_true rfl) rfl dX6_ask_205 (fun H locs hM => ?_)
                  refine g_iinc (v := x2 + 1) (lv' := [(3, .int (x2 + 1)), (0, .ref o), (2, .int r2)]) G dX6_ask_208 hl (k := 2) rfl rfl (Nat.le_of_ble_eq_true rfl) rfl (fun ls hl => ?_)
                  refine g_goto (tgt := 189) G dX6_ask_211 rfl ?_
                  exact ih189 _ _ _ _ hf hM ls (lv_sub hl [1, 2, 0] rfl)
            exact L189 FU _ _ _ _ hf hM ls (lv_sub hl [1, 3, 0] rfl)
          refine g_icmp_ge (tgt := 173) G dX6_ask_164 rfl (fun c4 => ?_) (fun c4 => ?_)
          · have hf := it_pos c4 hf
            refine g_lconst (v := 0) G dX6_ask_173 rfl ?_
            exact J174 _ _ _ _ hf hM ls (lv_sub hl [0, 1, 2] rfl)
          · have hf := it_neg c4 hf
            refine g_ldc2 G q2413 dX6_ask_167 ?_
            refine g_goto (tgt := 174) G dX6_ask_170 rfl ?_
            exact J174 _ _ _ _ hf hM ls (lv_sub hl [0, 1, 2] rfl)
        · have hf := it_neg c2 hf
          refine g_ldc2 G q2218 dX6_ask_157 ?_
          exact m_lret X hM hf dX6_ask_160
      refine g_if_ne (tgt := 134) G dX6_ask_114 rfl (fun c5 => ?_) (fun c5 => ?_)
      · have hf := it_neg c5 hf
        exact J134 _ _ _ hf hM ls (lv_sub hl [0, 1, 2] rfl)
      · have hf := it_pos c5 hf
        refine g_aload_n G dX6_ask_117 rfl (lv_at hl 0 rfl) ?_
        obtain ⟨r5, z27, h6, hf⟩ := bnd_open hf
        refine m_callVi (As := []) (rest := []) X hM hl mc_look (c_look h6) rfl (Nat.le_of_ble_eq_true rfl) (Nat.le_of_ble_eq_true rfl) rfl dX6_ask_118 (fun H locs hM => ?_)
        refine g_iconst (v := (-1)) G dX6_ask_121 rfl ?_
        refine g_icmp_eq (tgt := 134) G dX6_ask_122 rfl (fun c6 => ?_) (fun c6 => ?_)
        · have hf := it_pos c6 hf
          exact J134 _ _ _ hf hM ls (lv_sub hl [0, 1, 2] rfl)
        · have hf := it_neg c6 hf
          refine g_aload_n G dX6_ask_125 rfl (lv_at hl 0 rfl) ?_
          refine g_iconst (v := 1) G dX6_ask_126 rfl ?_
          refine g_aload_n G dX6_ask_127 rfl (lv_at hl 0 rfl) ?_
          refine mg_i X hM mf_2 dX6_ask_128 ?_
          obtain ⟨z28, h7, hf⟩ := bnv_open hf
          refine m_callVv (As := [.int 1, .int (mI z27 2)]) (rest := []) X hM hl mc_fail (c_fail h7) rfl (Nat.le_of_ble_eq_true rfl) (Nat.le_of_ble_eq_true rfl) rfl dX6_ask_131 (fun H locs hM => ?_)
          exact J134 _ _ _ hf hM ls (lv_sub hl [0, 1, 2] rfl)
    obtain ⟨j99, hj99, hf⟩ := jn_open hf
    have J99 : ∀ (z29 : MS) (H : Heap) (locs : List Loc), j99 z29 = some (r, z') → MI D o ad H0 z29 H locs → ∀ ls : Array Slot, lv_has ls 4 [(0, .ref o), (1, .int a1), (2, .int r2)] → Z H locs 0 0 (F0 m 99 ls []) := by
      intro z29 H locs hf hM ls hl
      rw [hj99] at hf
      refine g_aload_n G dX6_ask_99 rfl (lv_at hl 0 rfl) ?_
      refine mg_i X hM mf_5 dX6_ask_100 ?_
      refine g_if_ne (tgt := 110) G dX6_ask_103 rfl (fun c7 => ?_) (fun c7 => ?_)
      · have hf := it_neg c7 hf
        exact J110 _ _ _ hf hM ls (lv_sub hl [0, 1, 2] rfl)
      · have hf := it_pos c7 hf
        refine g_aload_n G dX6_ask_106 rfl (lv_at hl 0 rfl) ?_
        obtain ⟨z30, h8, hf⟩ := bnv_open hf
        refine m_callVv (As := []) (rest := []) X hM hl mc_qSums (c_qSums h8) rfl (Nat.le_of_ble_eq_true rfl) (Nat.le_of_ble_eq_true rfl) rfl dX6_ask_107 (fun H locs hM => ?_)
        exact J110 _ _ _ hf hM ls (lv_sub hl [0, 1, 2] rfl)
    refine g_if_ne (tgt := 99) G dX6_ask_84 rfl (fun c8 => ?_) (fun c8 => ?_)
    · have hf := it_neg c8 hf
      exact J99 _ _ _ hf hM ls (lv_sub hl [1, 2, 0] rfl)
    · have hf := it_pos c8 hf
      refine g_iload_n G dX6_ask_87 rfl (lv_at hl 0 rfl) ?_
      refine g_iconst (v := 3) G dX6_ask_88 rfl ?_
      refine g_icmp_ge (tgt := 99) G dX6_ask_89 rfl (fun c9 => ?_) (fun c9 => ?_)
      · have hf := it_pos c9 hf
        exact J99 _ _ _ hf hM ls (lv_sub hl [1, 2, 0] rfl)
      · have hf := it_neg c9 hf
        refine g_aload_n G dX6_ask_92 rfl (lv_at hl 1 rfl) ?_
        obtain ⟨z31, h9, hf⟩ := bnv_open hf
        refine m_callVv (As := []) (rest := []) X hM hl mc_qTest (c_qTest h9) rfl (Nat.le_of_ble_eq_true rfl) (Nat.le_of_ble_eq_true rfl) rfl dX6_ask_93 (fun H locs hM => ?_)
        refine g_goto (tgt := 110) G dX6_ask_96 rfl ?_
        exact J110 _ _ _ hf hM ls (lv_sub hl [1, 2, 0] rfl)
  · have hf := it_pos c1 hf
    refine g_aload_n G dX6_ask_8 rfl (lv_at hl 0 rfl) ?_
    refine g_iconst (v := 0) G dX6_ask_9 rfl ?_
    obtain ⟨z32, hz32, hf⟩ := nm_open hf
    refine mp_i X hM mf_1 hz32 dX6_ask_10 (fun H locs hM => ?_)
    refine g_ldc2 G q2218 dX6_ask_13 ?_
    exact m_lret X hM hf dX6_ask_16
theorem mc_checked : mcS yX6_checked cX6_checked 4 (some .int) 2 659 := ⟨lw_S q2434 q2435 q157 q2436, ⟨by decide +kernel, by decide +kernel, by decide +kernel⟩, Nat.le_of_ble_eq_true rfl⟩
noncomputable def m_checked_L5 (a1 : Nat) (a2 : Int32) (s5 : Int32 → Int32 → MS → Option (Int32 × MS)) (x1 : Int32) (x2 : Int32) (z1 : MS) : Option (Int32 × MS) :=
  if a2 ≤ x2 then
    some (x1, z1)
  else
    ck (inb x2 (mN a1)) <|
    s5 (((3 * x1) + (mA z1 a1 (Int32.toNatClampNeg x2))) - ((3 * x1) + (mA z1 a1 (Int32.toNatClampNeg x2))) / 251 * 251) (x2 + 1) z1
noncomputable def m_checked (a1 : Nat) (a2 : Int32) (z : MS) : Option (Int32 × MS) :=
  fx (m_checked_L5 a1 a2) (fun _ _ _ => none) FU 43 0 z
set_option maxHeartbeats 1000000 in
theorem c_checked {l : Launch} {D : MD} {o : Nat} {ad : Nat → Nat} {a1 : Nat} {a2 : Int32} {z z' : MS} {r : Int32} (ha1 : mIs a1 .int) (hf : m_checked a1 a2 z = some (r, z')) : MMet l D o ad yX6_checked cX6_checked 4 (some .int) 1 [.ref (ad a1), .int a2] z z' (some (.int r)) := by
  unfold m_checked at hf
  refine m_head pnX6 rfl (Nat.le_of_ble_eq_true rfl) (fun m Z H0 ls X hM hl => ?_)
  have G := X.g
  have hl : lv_has ls 4 [(0, .ref (ad a1)), (1, .int a2)] := hl
  refine g_bipush (v := 43) G dX6_checked_0 rfl ?_
  refine g_istore_n (lv' := [(2, .int 43), (0, .ref (ad a1)), (1, .int a2)]) G dX6_checked_2 rfl hl (Nat.le_of_ble_eq_true rfl) rfl (fun ls hl => ?_)
  refine g_iconst (v := 0) G dX6_checked_3 rfl ?_
  refine g_istore_n (lv' := [(3, .int 0), (2, .int 43), (0, .ref (ad a1)), (1, .int a2)]) G dX6_checked_4 rfl hl (Nat.le_of_ble_eq_true rfl) rfl (fun ls hl => ?_)
  have L5 : ∀ (n : Nat) (x1 : Int32) (x2 : Int32) (z1 : MS) (H : Heap) (locs : List Loc), fx (m_checked_L5 a1 a2) (fun _ _ _ => none) n x1 x2 z1 = some (r, z') → MI D o ad H0 z1 H locs → ∀ ls : Array Slot, lv_has ls 4 [(0, .ref (ad a1)), (1, .int a2), (2, .int x1), (3, .int x2)] → Z H locs 0 0 (F0 m 5 ls []) := by
    intro n
    induction n with
    | zero => intro x1 x2 z1 H locs hf; exact absurd hf (by intro q; cases q)
    | succ n ih5 =>
      intro x1 x2 z1 H locs hf hM ls hl
      rw [fx_s] at hf
      generalize fx (m_checked_L5 a1 a2) (fun _ _ _ => none) n = s5 at hf ih5
      unfold m_checked_L5 at hf
      refine g_iload_n G dX6_checked_5 rfl (lv_at hl 3 rfl) ?_
      refine g_iload_n G dX6_checked_6 rfl (lv_at hl 1 rfl) ?_
      refine g_icmp_ge (tgt := 28) G dX6_checked_7 rfl (fun c1 => ?_) (fun c1 => ?_)
      · have hf := it_pos c1 hf
        refine g_iload_n G dX6_checked_28 rfl (lv_at hl 2 rfl) ?_
        exact m_iret X hM hf dX6_checked_29
      · have hf := it_neg c1 hf
        refine g_iconst (v := 3) G dX6_checked_10 rfl ?_
        refine g_iload_n G dX6_checked_11 rfl (lv_at hl 2 rfl) ?_
        refine g_imul G dX6_checked_12 ?_
        refine g_aload_n G dX6_checked_13 rfl (lv_at hl 0 rfl) ?_
        refine g_iload_n G dX6_checked_14 rfl (lv_at hl 3 rfl) ?_
        obtain ⟨b1, hf⟩ := ck_open hf
        refine m_iald X hM ha1 b1 dX6_checked_15 ?_
        refine g_iadd G dX6_checked_16 ?_
        refine g_sipush (v := 251) G dX6_checked_17 rfl ?_
        refine g_irem G dX6_checked_20 (by decide) ?_
        refine g_istore_n (lv' := [(2, .int (((3 * x1) + (mA z1 a1 (Int32.toNatClampNeg x2))) - ((3 * x1) + (mA z1 a1 (Int32.toNatClampNeg x2))) / 251 * 251)), (0, .ref (ad a1)), (1, .int a2), (3, .int x2)]) G dX6_checked_21 rfl hl (Nat.le_of_ble_eq_true rfl) rfl (fun ls hl => ?_)
        refine g_iinc (v := x2 + 1) (lv' := [(3, .int (x2 + 1)), (2, .int (((3 * x1) + (mA z1 a1 (Int32.toNatClampNeg x2))) - ((3 * x1) + (mA z1 a1 (Int32.toNatClampNeg x2))) / 251 * 251)), (0, .ref (ad a1)), (1, .int a2)]) G dX6_checked_22 hl (k := 3) rfl rfl (Nat.le_of_ble_eq_true rfl) rfl (fun ls hl => ?_)
        refine g_goto (tgt := 5) G dX6_checked_25 rfl ?_
        exact ih5 _ _ _ _ _ hf hM ls (lv_sub hl [2, 3, 1, 0] rfl)
  exact L5 FU _ _ _ _ _ hf hM ls (lv_sub hl [2, 3, 1, 0] rfl)
theorem mc_writes : mcV yX6_writes cX6_writes 2 (none) 1 656 := ⟨lw_V q2430 q2432 qs140 q157 q2433, ⟨rfl, by decide +kernel, by decide +kernel, by decide +kernel⟩, Nat.le_of_ble_eq_true rfl⟩
noncomputable def m_writes (a1 : Int32) (z : MS) : Option (MS) :=
  ck (inb (mI z 104) (mN 103)) <|
  nm (wA z 103 (Int32.toNatClampNeg (mI z 104)) a1) fun z1 =>
  nm (wI z1 104 ((mI z1 104) + 1)) fun z2 =>
  some z2
set_option maxHeartbeats 1000000 in
theorem c_writes {l : Launch} {D : MD} {o : Nat} {ad : Nat → Nat} {a1 : Int32} {z z' : MS} (hf : m_writes a1 z = some z') : MMet l D o ad yX6_writes cX6_writes 2 (none) 1 [.ref o, .int a1] z z' (none) := by
  unfold m_writes at hf
  refine m_head pnX6 rfl (Nat.le_of_ble_eq_true rfl) (fun m Z H0 ls X hM hl => ?_)
  have G := X.g
  have hl : lv_has ls 2 [(0, .ref o), (1, .int a1)] := hl
  refine g_aload_n G dX6_writes_0 rfl (lv_at hl 0 rfl) ?_
  refine mg_a X hM mf_103 dX6_writes_1 ?_
  refine g_aload_n G dX6_writes_4 rfl (lv_at hl 0 rfl) ?_
  refine mg_i X hM mf_104 dX6_writes_5 ?_
  refine g_iload_n G dX6_writes_8 rfl (lv_at hl 1 rfl) ?_
  obtain ⟨b1, hf⟩ := ck_open hf
  obtain ⟨z1, hz1, hf⟩ := nm_open hf
  refine m_iast X hM (mIs.of mf_103) b1 hz1 dX6_writes_9 (fun H locs hM => ?_)
  refine g_aload_n G dX6_writes_10 rfl (lv_at hl 0 rfl) ?_
  refine g_dup G dX6_writes_11 rfl ?_
  refine mg_i X hM mf_104 dX6_writes_12 ?_
  refine g_iconst (v := 1) G dX6_writes_15 rfl ?_
  refine g_iadd G dX6_writes_16 ?_
  obtain ⟨z2, hz2, hf⟩ := nm_open hf
  refine mp_i X hM mf_104 hz2 dX6_writes_17 (fun H locs hM => ?_)
  exact m_vret X hM hf dX6_writes_20
noncomputable def m_image_L56 (x1 : Int32) (k83 : MS → Option (Int32 × MS)) (s56 : Int32 → MS → Option (Int32 × MS)) (x2 : Int32) (z12 : MS) : Option (Int32 × MS) :=
  if 5 ≤ x2 then
    k83 z12
  else
    ck (inb ((1 + (5 * x1)) + x2) (mN 53)) <|
    bnv (m_writes (mA z12 53 (Int32.toNatClampNeg ((1 + (5 * x1)) + x2))) z12) fun z13 =>
    s56 (x2 + 1) z13
noncomputable def m_image_L35 (k89 : MS → Option (Int32 × MS)) (s35 : Int32 → MS → Option (Int32 × MS)) (x1 : Int32) (z7 : MS) : Option (Int32 × MS) :=
  bnd (m_personMany z7) fun r2 z8 =>
  if r2 ≤ x1 then
    k89 z8
  else
    bnd (m_masterOf x1 z8) fun r3 z9 =>
    bnv (m_writes (r3 + 1) z9) fun z10 =>
    jn (fun (z11 : MS) =>
      s35 (x1 + 1) z11) fun k83 =>
    fx (m_image_L56 x1 k83) (fun _ _ => none) FU 1 z10
noncomputable def m_image (z : MS) : Option (Int32 × MS) :=
  nm (wI z 104 0) fun z1 =>
  bnv (m_writes ((mA z1 53 (Int32.toNatClampNeg 0)) / 256) z1) fun z2 =>
  bnv (m_writes ((mA z2 53 (Int32.toNatClampNeg 0)) - (mA z2 53 (Int32.toNatClampNeg 0)) / 256 * 256) z2) fun z3 =>
  jn (fun (z4 : MS) =>
    bnd (m_checked 103 (mI z4 104) z4) fun r1 z5 =>
    bnv (m_writes r1 z5) fun z6 =>
    some ((mI z6 104), z6)) fun k89 =>
  fx (m_image_L35 k89) (fun _ _ => none) FU 0 z3
set_option maxHeartbeats 1000000 in
theorem c_image {l : Launch} {D : MD} {o : Nat} {ad : Nat → Nat} {z z' : MS} {r : Int32} (hf : m_image z = some (r, z')) : MMet l D o ad yX6_image cX6_image 3 (some .int) 2 [.ref o] z z' (some (.int r)) := by
  unfold m_image at hf
  refine m_head pnX6 rfl (Nat.le_of_ble_eq_true rfl) (fun m Z H0 ls X hM hl => ?_)
  have G := X.g
  have hl : lv_has ls 3 [(0, .ref o)] := hl
  refine g_aload_n G dX6_image_0 rfl (lv_at hl 0 rfl) ?_
  refine g_iconst (v := 0) G dX6_image_1 rfl ?_
  obtain ⟨z1, hz1, hf⟩ := nm_open hf
  refine mp_i X hM mf_104 hz1 dX6_image_2 (fun H locs hM => ?_)
  refine g_aload_n G dX6_image_5 rfl (lv_at hl 0 rfl) ?_
  refine g_aload_n G dX6_image_6 rfl (lv_at hl 0 rfl) ?_
  refine mg_a X hM mf_53 dX6_image_7 ?_
  refine g_iconst (v := 0) G dX6_image_10 rfl ?_
  refine m_iald X hM (mIs.of mf_53) (by decide) dX6_image_11 ?_
  refine g_sipush (v := 256) G dX6_image_12 rfl ?_
  refine g_idiv G dX6_image_15 (by decide) ?_
  obtain ⟨z2, h1, hf⟩ := bnv_open hf
  refine m_callVv (As := [.int ((mA z1 53 (Int32.toNatClampNeg 0)) / 256)]) (rest := []) X hM hl mc_writes (c_writes h1) rfl (Nat.le_of_ble_eq_true rfl) (Nat.le_of_ble_eq_true rfl) rfl dX6_image_16 (fun H locs hM => ?_)
  refine g_aload_n G dX6_image_19 rfl (lv_at hl 0 rfl) ?_
  refine g_aload_n G dX6_image_20 rfl (lv_at hl 0 rfl) ?_
  refine mg_a X hM mf_53 dX6_image_21 ?_
  refine g_iconst (v := 0) G dX6_image_24 rfl ?_
  refine m_iald X hM (mIs.of mf_53) (by decide) dX6_image_25 ?_
  refine g_sipush (v := 256) G dX6_image_26 rfl ?_
  refine g_irem G dX6_image_29 (by decide) ?_
  obtain ⟨z3, h2, hf⟩ := bnv_open hf
  refine m_callVv (As := [.int ((mA z2 53 (Int32.toNatClampNeg 0)) - (mA z2 53 (Int32.toNatClampNeg 0)) / 256 * 256)]) (rest := []) X hM hl mc_writes (c_writes h2) rfl (Nat.le_of_ble_eq_true rfl) (Nat.le_of_ble_eq_true rfl) rfl dX6_image_30 (fun H locs hM => ?_)
  refine g_iconst (v := 0) G dX6_image_33 rfl ?_
  refine g_istore_n (lv' := [(1, .int 0), (0, .ref o)]) G dX6_image_34 rfl hl (Nat.le_of_ble_eq_true rfl) rfl (fun ls hl => ?_)
  obtain ⟨k89, hk89, hf⟩ := jn_open hf
  have K89 : ∀ (z4 : MS) (H : Heap) (locs : List Loc), k89 z4 = some (r, z') → MI D o ad H0 z4 H locs → ∀ ls : Array Slot, lv_has ls 3 [(0, .ref o)] → Z H locs 0 0 (F0 m 89 ls []) := by
    intro z4 H locs hf hM ls hl
    rw [hk89] at hf
    refine g_aload_n G dX6_image_89 rfl (lv_at hl 0 rfl) ?_
    refine g_aload_n G dX6_image_90 rfl (lv_at hl 0 rfl) ?_
    refine mg_a X hM mf_103 dX6_image_91 ?_
    refine g_aload_n G dX6_image_94 rfl (lv_at hl 0 rfl) ?_
    refine mg_i X hM mf_104 dX6_image_95 ?_
    obtain ⟨r1, z5, h3, hf⟩ := bnd_open hf
    refine m_callSi (As := [.ref (ad 103), .int (mI z4 104)]) (rest := [.ref o]) X hM hl mc_checked (c_checked (mIs.of mf_103) h3) rfl (Nat.le_of_ble_eq_true rfl) (Nat.le_of_ble_eq_true rfl) rfl dX6_image_98 (fun H locs hM => ?_)
    obtain ⟨z6, h4, hf⟩ := bnv_open hf
    refine m_callVv (As := [.int r1]) (rest := []) X hM hl mc_writes (c_writes h4) rfl (Nat.le_of_ble_eq_true rfl) (Nat.le_of_ble_eq_true rfl) rfl dX6_image_101 (fun H locs hM => ?_)
    refine g_aload_n G dX6_image_104 rfl (lv_at hl 0 rfl) ?_
    refine mg_i X hM mf_104 dX6_image_105 ?_
    exact m_iret X hM hf dX6_image_108
  have L35 : ∀ (n : Nat) (x1 : Int32) (z7 : MS) (H : Heap) (locs : List Loc), fx (m_image_L35 k89) (fun _ _ => none) n x1 z7 = some (r, z') → MI D o ad H0 z7 H locs → ∀ ls : Array Slot, lv_has ls 3 [(0, .ref o), (1, .int x1)] → Z H locs 0 0 (F0 m 35 ls []) := by
    intro n
    induction n with
    | zero => intro x1 z7 H locs hf; exact absurd hf (by intro q; cases q)
    | succ n ih35 =>
      intro x1 z7 H locs hf hM ls hl
      rw [fx_s] at hf
      generalize fx (m_image_L35 k89) (fun _ _ => none) n = s35 at hf ih35
      unfold m_image_L35 at hf
      refine g_iload_n G dX6_image_35 rfl (lv_at hl 1 rfl) ?_
      refine g_aload_n G dX6_image_36 rfl (lv_at hl 0 rfl) ?_
      obtain ⟨r2, z8, h5, hf⟩ := bnd_open hf
      refine m_callVi (As := []) (rest := [.int x1]) X hM hl mc_personMany (c_personMany h5) rfl (Nat.le_of_ble_eq_true rfl) (Nat.le_of_ble_eq_true rfl) rfl dX6_image_37 (fun H locs hM => ?_)
      refine g_icmp_ge (tgt := 89) G dX6_image_40 rfl (fun c1 => ?_) (fun c1 => ?_)
      · have hf := it_pos c1 hf
        exact K89 _ _ _ hf hM ls (lv_sub hl [0] rfl)
      · have hf := it_neg c1 hf
        refine g_aload_n G dX6_image_43 rfl (lv_at hl 0 rfl) ?_
        refine g_aload_n G dX6_image_44 rfl (lv_at hl 0 rfl) ?_
        refine g_iload_n G dX6_image_45 rfl (lv_at hl 1 rfl) ?_
        obtain ⟨r3, z9, h6, hf⟩ := bnd_open hf
        refine m_callVi (As := [.int x1]) (rest := [.ref o]) X hM hl mc_masterOf (c_masterOf h6) rfl (Nat.le_of_ble_eq_true rfl) (Nat.le_of_ble_eq_true rfl) rfl dX6_image_46 (fun H locs hM => ?_)
        refine g_iconst (v := 1) G dX6_image_49 rfl ?_
        refine g_iadd G dX6_image_50 ?_
        obtain ⟨z10, h7, hf⟩ := bnv_open hf
        refine m_callVv (As := [.int (r3 + 1)]) (rest := []) X hM hl mc_writes (c_writes h7) rfl (Nat.le_of_ble_eq_true rfl) (Nat.le_of_ble_eq_true rfl) rfl dX6_image_51 (fun H locs hM => ?_)
        refine g_iconst (v := 1) G dX6_image_54 rfl ?_
        refine g_istore_n (lv' := [(2, .int 1), (0, .ref o), (1, .int x1)]) G dX6_image_55 rfl hl (Nat.le_of_ble_eq_true rfl) rfl (fun ls hl => ?_)
        obtain ⟨k83, hk83, hf⟩ := jn_open hf
        have K83 : ∀ (z11 : MS) (H : Heap) (locs : List Loc), k83 z11 = some (r, z') → MI D o ad H0 z11 H locs → ∀ ls : Array Slot, lv_has ls 3 [(0, .ref o), (1, .int x1)] → Z H locs 0 0 (F0 m 83 ls []) := by
          intro z11 H locs hf hM ls hl
          rw [hk83] at hf
          refine g_iinc (v := x1 + 1) (lv' := [(1, .int (x1 + 1)), (0, .ref o)]) G dX6_image_83 hl (k := 1) rfl rfl (Nat.le_of_ble_eq_true rfl) rfl (fun ls hl => ?_)
          refine g_goto (tgt := 35) G dX6_image_86 rfl ?_
          exact ih35 _ _ _ _ hf hM ls (lv_sub hl [1, 0] rfl)
        have L56 : ∀ (n : Nat) (x2 : Int32) (z12 : MS) (H : Heap) (locs : List Loc), fx (m_image_L56 x1 k83) (fun _ _ => none) n x2 z12 = some (r, z') → MI D o ad H0 z12 H locs → ∀ ls : Array Slot, lv_has ls 3 [(0, .ref o), (1, .int x1), (2, .int x2)] → Z H locs 0 0 (F0 m 56 ls []) := by
          intro n
          induction n with
          | zero => intro x2 z12 H locs hf; exact absurd hf (by intro q; cases q)
          | succ n ih56 =>
            intro x2 z12 H locs hf hM ls hl
            rw [fx_s] at hf
            generalize fx (m_image_L56 x1 k83) (fun _ _ => none) n = s56 at hf ih56
            unfold m_image_L56 at hf
            refine g_iload_n G dX6_image_56 rfl (lv_at hl 2 rfl) ?_
            refine g_iconst (v := 5) G dX6_image_57 rfl ?_
            refine g_icmp_ge (tgt := 83) G dX6_image_58 rfl (fun c2 => ?_) (fun c2 => ?_)
            · have hf := it_pos c2 hf
              exact K83 _ _ _ hf hM ls (lv_sub hl [0, 1] rfl)
            · have hf := it_neg c2 hf
              refine g_aload_n G dX6_image_61 rfl (lv_at hl 0 rfl) ?_
              refine g_aload_n G dX6_image_62 rfl (lv_at hl 0 rfl) ?_
              refine mg_a X hM mf_53 dX6_image_63 ?_
              refine g_iconst (v := 1) G dX6_image_66 rfl ?_
              refine g_iconst (v := 5) G dX6_image_67 rfl ?_
              refine g_iload_n G dX6_image_68 rfl (lv_at hl 1 rfl) ?_
              refine g_imul G dX6_image_69 ?_
              refine g_iadd G dX6_image_70 ?_
              refine g_iload_n G dX6_image_71 rfl (lv_at hl 2 rfl) ?_
              refine g_iadd G dX6_image_72 ?_
              obtain ⟨b1, hf⟩ := ck_open hf
              refine m_iald X hM (mIs.of mf_53) b1 dX6_image_73 ?_
              obtain ⟨z13, h8, hf⟩ := bnv_open hf
              refine m_callVv (As := [.int (mA z12 53 (Int32.toNatClampNeg ((1 + (5 * x1)) + x2)))]) (rest := []) X hM hl mc_writes (c_writes h8) rfl (Nat.le_of_ble_eq_true rfl) (Nat.le_of_ble_eq_true rfl) rfl dX6_image_74 (fun H locs hM => ?_)
              refine g_iinc (v := x2 + 1) (lv' := [(2, .int (x2 + 1)), (0, .ref o), (1, .int x1)]) G dX6_image_77 hl (k := 2) rfl rfl (Nat.le_of_ble_eq_true rfl) rfl (fun ls hl => ?_)
              refine g_goto (tgt := 56) G dX6_image_80 rfl ?_
              exact ih56 _ _ _ _ hf hM ls (lv_sub hl [1, 2, 0] rfl)
        exact L56 FU _ _ _ _ hf hM ls (lv_sub hl [1, 2, 0] rfl)
  exact L35 FU _ _ _ _ hf hM ls (lv_sub hl [1, 0] rfl)
noncomputable def m_octet (a1 : Int32) (z : MS) : Option (Int32 × MS) :=
  jn (fun (z1 : MS) =>
    some ((-1), z1)) fun j21 =>
  if a1 < 0 then
    j21 z
  else
    if (mI z 104) ≤ a1 then
      j21 z
    else
      ck (inb a1 (mN 103)) <|
      some ((mA z 103 (Int32.toNatClampNeg a1)), z)
set_option maxHeartbeats 1000000 in
theorem c_octet {l : Launch} {D : MD} {o : Nat} {ad : Nat → Nat} {a1 : Int32} {z z' : MS} {r : Int32} (hf : m_octet a1 z = some (r, z')) : MMet l D o ad yX6_octet cX6_octet 2 (some .int) 1 [.ref o, .int a1] z z' (some (.int r)) := by
  unfold m_octet at hf
  refine m_head pnX6 rfl (Nat.le_of_ble_eq_true rfl) (fun m Z H0 ls X hM hl => ?_)
  have G := X.g
  have hl : lv_has ls 2 [(0, .ref o), (1, .int a1)] := hl
  refine g_iload_n G dX6_octet_0 rfl (lv_at hl 1 rfl) ?_
  obtain ⟨j21, hj21, hf⟩ := jn_open hf
  have J21 : ∀ (z1 : MS) (H : Heap) (locs : List Loc), j21 z1 = some (r, z') → MI D o ad H0 z1 H locs → ∀ ls : Array Slot, lv_has ls 2 [] → Z H locs 0 0 (F0 m 21 ls []) := by
    intro z1 H locs hf hM ls hl
    rw [hj21] at hf
    refine g_iconst (v := (-1)) G dX6_octet_21 rfl ?_
    exact m_iret X hM hf dX6_octet_22
  refine g_if_lt (tgt := 21) G dX6_octet_1 rfl (fun c1 => ?_) (fun c1 => ?_)
  · have hf := it_pos c1 hf
    exact J21 _ _ _ hf hM ls (lv_sub hl [] rfl)
  · have hf := it_neg c1 hf
    refine g_iload_n G dX6_octet_4 rfl (lv_at hl 1 rfl) ?_
    refine g_aload_n G dX6_octet_5 rfl (lv_at hl 0 rfl) ?_
    refine mg_i X hM mf_104 dX6_octet_6 ?_
    refine g_icmp_ge (tgt := 21) G dX6_octet_9 rfl (fun c2 => ?_) (fun c2 => ?_)
    · have hf := it_pos c2 hf
      exact J21 _ _ _ hf hM ls (lv_sub hl [] rfl)
    · have hf := it_neg c2 hf
      refine g_aload_n G dX6_octet_12 rfl (lv_at hl 0 rfl) ?_
      refine mg_a X hM mf_103 dX6_octet_13 ?_
      refine g_iload_n G dX6_octet_16 rfl (lv_at hl 1 rfl) ?_
      obtain ⟨b1, hf⟩ := ck_open hf
      refine m_iald X hM (mIs.of mf_103) b1 dX6_octet_17 ?_
      refine g_goto (tgt := 22) G dX6_octet_18 rfl ?_
      exact m_iret X hM hf dX6_octet_22
theorem mc_isRing : mcV yX6_isRing cX6_isRing 4 (some .boolean) 1 666 := ⟨lw_V q2453 q2455 qs143 q157 q2456, ⟨rfl, by decide +kernel, by decide +kernel, by decide +kernel⟩, Nat.le_of_ble_eq_true rfl⟩
noncomputable def m_isRing_L15 (a1 : Int32) (k50 : Int32 → MS → Option (Bool × MS)) (s15 : Int32 → Int32 → MS → Option (Bool × MS)) (x2 : Int32) (x3 : Int32) (z2 : MS) : Option (Bool × MS) :=
  if 8 ≤ x3 then
    k50 x2 z2
  else
    if x2 = (-1) then
      k50 x2 z2
    else
      if x2 = a1 then
        k50 x2 z2
      else
        ck (inb (2 + (5 * x2)) (mN 0)) <|
        s15 ((mA z2 0 (Int32.toNatClampNeg (2 + (5 * x2)))) - 1) (x3 + 1) z2
noncomputable def m_isRing (a1 : Int32) (z : MS) : Option (Bool × MS) :=
  ck (inb (2 + (5 * a1)) (mN 0)) <|
  jn (fun (x1 : Int32) (z1 : MS) =>
    if x1 = a1 then
      some (true, z1)
    else
      some (false, z1)) fun k50 =>
  fx (m_isRing_L15 a1 k50) (fun _ _ _ => none) FU ((mA z 0 (Int32.toNatClampNeg (2 + (5 * a1)))) - 1) 0 z
set_option maxHeartbeats 1000000 in
theorem c_isRing {l : Launch} {D : MD} {o : Nat} {ad : Nat → Nat} {a1 : Int32} {z z' : MS} {r : Bool} (hf : m_isRing a1 z = some (r, z')) : MMet l D o ad yX6_isRing cX6_isRing 4 (some .boolean) 1 [.ref o, .int a1] z z' (some (.int (bI r))) := by
  unfold m_isRing at hf
  refine m_head pnX6 rfl (Nat.le_of_ble_eq_true rfl) (fun m Z H0 ls X hM hl => ?_)
  have G := X.g
  have hl : lv_has ls 4 [(0, .ref o), (1, .int a1)] := hl
  refine g_aload_n G dX6_isRing_0 rfl (lv_at hl 0 rfl) ?_
  refine mg_a X hM mf_0 dX6_isRing_1 ?_
  refine g_iconst (v := 2) G dX6_isRing_4 rfl ?_
  refine g_iconst (v := 5) G dX6_isRing_5 rfl ?_
  refine g_iload_n G dX6_isRing_6 rfl (lv_at hl 1 rfl) ?_
  refine g_imul G dX6_isRing_7 ?_
  refine g_iadd G dX6_isRing_8 ?_
  obtain ⟨b1, hf⟩ := ck_open hf
  refine m_iald X hM (mIs.of mf_0) b1 dX6_isRing_9 ?_
  refine g_iconst (v := 1) G dX6_isRing_10 rfl ?_
  refine g_isub G dX6_isRing_11 ?_
  refine g_istore_n (lv' := [(2, .int ((mA z 0 (Int32.toNatClampNeg (2 + (5 * a1)))) - 1)), (0, .ref o), (1, .int a1)]) G dX6_isRing_12 rfl hl (Nat.le_of_ble_eq_true rfl) rfl (fun ls hl => ?_)
  refine g_iconst (v := 0) G dX6_isRing_13 rfl ?_
  refine g_istore_n (lv' := [(3, .int 0), (2, .int ((mA z 0 (Int32.toNatClampNeg (2 + (5 * a1)))) - 1)), (0, .ref o), (1, .int a1)]) G dX6_isRing_14 rfl hl (Nat.le_of_ble_eq_true rfl) rfl (fun ls hl => ?_)
  obtain ⟨k50, hk50, hf⟩ := jn_open hf
  have K50 : ∀ (x1 : Int32) (z1 : MS) (H : Heap) (locs : List Loc), k50 x1 z1 = some (r, z') → MI D o ad H0 z1 H locs → ∀ ls : Array Slot, lv_has ls 4 [(1, .int a1), (2, .int x1)] → Z H locs 0 0 (F0 m 50 ls []) := by
    intro x1 z1 H locs hf hM ls hl
    rw [hk50] at hf
    refine g_iload_n G dX6_isRing_50 rfl (lv_at hl 1 rfl) ?_
    refine g_iload_n G dX6_isRing_51 rfl (lv_at hl 0 rfl) ?_
    refine g_icmp_ne (tgt := 59) G dX6_isRing_52 rfl (fun c1 => ?_) (fun c1 => ?_)
    · have hf := it_neg c1 hf
      refine g_iconst (v := 0) G dX6_isRing_59 rfl ?_
      exact m_zret X hM hf dX6_isRing_60
    · have hf := it_pos c1 hf
      refine g_iconst (v := 1) G dX6_isRing_55 rfl ?_
      refine g_goto (tgt := 60) G dX6_isRing_56 rfl ?_
      exact m_zret X hM hf dX6_isRing_60
  have L15 : ∀ (n : Nat) (x2 : Int32) (x3 : Int32) (z2 : MS) (H : Heap) (locs : List Loc), fx (m_isRing_L15 a1 k50) (fun _ _ _ => none) n x2 x3 z2 = some (r, z') → MI D o ad H0 z2 H locs → ∀ ls : Array Slot, lv_has ls 4 [(0, .ref o), (1, .int a1), (2, .int x2), (3, .int x3)] → Z H locs 0 0 (F0 m 15 ls []) := by
    intro n
    induction n with
    | zero => intro x2 x3 z2 H locs hf; exact absurd hf (by intro q; cases q)
    | succ n ih15 =>
      intro x2 x3 z2 H locs hf hM ls hl
      rw [fx_s] at hf
      generalize fx (m_isRing_L15 a1 k50) (fun _ _ _ => none) n = s15 at hf ih15
      unfold m_isRing_L15 at hf
      refine g_iload_n G dX6_isRing_15 rfl (lv_at hl 3 rfl) ?_
      refine g_bipush (v := 8) G dX6_isRing_16 rfl ?_
      refine g_icmp_ge (tgt := 50) G dX6_isRing_18 rfl (fun c2 => ?_) (fun c2 => ?_)
      · have hf := it_pos c2 hf
        exact K50 _ _ _ _ hf hM ls (lv_sub hl [1, 2] rfl)
      · have hf := it_neg c2 hf
        refine g_iload_n G dX6_isRing_21 rfl (lv_at hl 2 rfl) ?_
        refine g_iconst (v := (-1)) G dX6_isRing_22 rfl ?_
        refine g_icmp_eq (tgt := 50) G dX6_isRing_23 rfl (fun c3 => ?_) (fun c3 => ?_)
        · have hf := it_pos c3 hf
          exact K50 _ _ _ _ hf hM ls (lv_sub hl [1, 2] rfl)
        · have hf := it_neg c3 hf
          refine g_iload_n G dX6_isRing_26 rfl (lv_at hl 2 rfl) ?_
          refine g_iload_n G dX6_isRing_27 rfl (lv_at hl 1 rfl) ?_
          refine g_icmp_eq (tgt := 50) G dX6_isRing_28 rfl (fun c4 => ?_) (fun c4 => ?_)
          · have hf := it_pos c4 hf
            exact K50 _ _ _ _ hf hM ls (lv_sub hl [1, 2] rfl)
          · have hf := it_neg c4 hf
            refine g_aload_n G dX6_isRing_31 rfl (lv_at hl 0 rfl) ?_
            refine mg_a X hM mf_0 dX6_isRing_32 ?_
            refine g_iconst (v := 2) G dX6_isRing_35 rfl ?_
            refine g_iconst (v := 5) G dX6_isRing_36 rfl ?_
            refine g_iload_n G dX6_isRing_37 rfl (lv_at hl 2 rfl) ?_
            refine g_imul G dX6_isRing_38 ?_
            refine g_iadd G dX6_isRing_39 ?_
            obtain ⟨b2, hf⟩ := ck_open hf
            refine m_iald X hM (mIs.of mf_0) b2 dX6_isRing_40 ?_
            refine g_iconst (v := 1) G dX6_isRing_41 rfl ?_
            refine g_isub G dX6_isRing_42 ?_
            refine g_istore_n (lv' := [(2, .int ((mA z2 0 (Int32.toNatClampNeg (2 + (5 * x2)))) - 1)), (0, .ref o), (1, .int a1), (3, .int x3)]) G dX6_isRing_43 rfl hl (Nat.le_of_ble_eq_true rfl) rfl (fun ls hl => ?_)
            refine g_iinc (v := x3 + 1) (lv' := [(3, .int (x3 + 1)), (2, .int ((mA z2 0 (Int32.toNatClampNeg (2 + (5 * x2)))) - 1)), (0, .ref o), (1, .int a1)]) G dX6_isRing_44 hl (k := 3) rfl rfl (Nat.le_of_ble_eq_true rfl) rfl (fun ls hl => ?_)
            refine g_goto (tgt := 15) G dX6_isRing_47 rfl ?_
            exact ih15 _ _ _ _ _ hf hM ls (lv_sub hl [2, 3, 1, 0] rfl)
  exact L15 FU _ _ _ _ _ hf hM ls (lv_sub hl [2, 3, 1, 0] rfl)
theorem mc_isPersonTold : mcV yX6_isPersonTold cX6_isPersonTold 4 (some .boolean) 1 663 := ⟨lw_V q2449 q2451 qs142 q157 q2452, ⟨rfl, by decide +kernel, by decide +kernel, by decide +kernel⟩, Nat.le_of_ble_eq_true rfl⟩
noncomputable def m_isPersonTold (a1 : Int32) (z : MS) : Option (Bool × MS) :=
  bnd (m_factMany z) fun r1 z1 =>
  ck (inb ((2 + (5 * a1)) + 1) (mN 0)) <|
  jn (fun (z2 : MS) =>
    some (false, z2)) fun j86 =>
  if (1 <<< (r1 &&& 31)) ≤ (mA z1 0 (Int32.toNatClampNeg ((2 + (5 * a1)) + 1))) then
    j86 z1
  else
    ck (inb ((2 + (5 * a1)) + 2) (mN 0)) <|
    if (1 <<< (r1 &&& 31)) ≤ (mA z1 0 (Int32.toNatClampNeg ((2 + (5 * a1)) + 2))) then
      j86 z1
    else
      ck (inb ((2 + (5 * a1)) + 1) (mN 0)) <|
      ck (inb ((2 + (5 * a1)) + 2) (mN 0)) <|
      if ((mA z1 0 (Int32.toNatClampNeg ((2 + (5 * a1)) + 1))) &&& (mA z1 0 (Int32.toNatClampNeg ((2 + (5 * a1)) + 2)))) = 0 then
        ck (inb ((2 + (5 * a1)) + 3) (mN 0)) <|
        if 9 < (mA z1 0 (Int32.toNatClampNeg ((2 + (5 * a1)) + 3))) then
          j86 z1
        else
          ck (inb ((2 + (5 * a1)) + 4) (mN 0)) <|
          if 4 ≤ (mA z1 0 (Int32.toNatClampNeg ((2 + (5 * a1)) + 4))) then
            j86 z1
          else
            some (true, z1)
      else
        j86 z1
set_option maxHeartbeats 1000000 in
theorem c_isPersonTold {l : Launch} {D : MD} {o : Nat} {ad : Nat → Nat} {a1 : Int32} {z z' : MS} {r : Bool} (hf : m_isPersonTold a1 z = some (r, z')) : MMet l D o ad yX6_isPersonTold cX6_isPersonTold 4 (some .boolean) 2 [.ref o, .int a1] z z' (some (.int (bI r))) := by
  unfold m_isPersonTold at hf
  refine m_head pnX6 rfl (Nat.le_of_ble_eq_true rfl) (fun m Z H0 ls X hM hl => ?_)
  have G := X.g
  have hl : lv_has ls 4 [(0, .ref o), (1, .int a1)] := hl
  refine g_iconst (v := 2) G dX6_isPersonTold_0 rfl ?_
  refine g_iconst (v := 5) G dX6_isPersonTold_1 rfl ?_
  refine g_iload_n G dX6_isPersonTold_2 rfl (lv_at hl 1 rfl) ?_
  refine g_imul G dX6_isPersonTold_3 ?_
  refine g_iadd G dX6_isPersonTold_4 ?_
  refine g_istore_n (lv' := [(2, .int (2 + (5 * a1))), (0, .ref o), (1, .int a1)]) G dX6_isPersonTold_5 rfl hl (Nat.le_of_ble_eq_true rfl) rfl (fun ls hl => ?_)
  refine g_iconst (v := 1) G dX6_isPersonTold_6 rfl ?_
  refine g_aload_n G dX6_isPersonTold_7 rfl (lv_at hl 1 rfl) ?_
  obtain ⟨r1, z1, h1, hf⟩ := bnd_open hf
  refine m_callVi (As := []) (rest := [.int 1]) X hM hl mc_factMany (c_factMany h1) rfl (Nat.le_of_ble_eq_true rfl) (Nat.le_of_ble_eq_true rfl) rfl dX6_isPersonTold_8 (fun H locs hM => ?_)
  refine g_ishl G dX6_isPersonTold_11 ?_
  refine g_istore_n (lv' := [(3, .int (1 <<< (r1 &&& 31))), (2, .int (2 + (5 * a1))), (0, .ref o), (1, .int a1)]) G dX6_isPersonTold_12 rfl hl (Nat.le_of_ble_eq_true rfl) rfl (fun ls hl => ?_)
  refine g_aload_n G dX6_isPersonTold_13 rfl (lv_at hl 2 rfl) ?_
  refine mg_a X hM mf_0 dX6_isPersonTold_14 ?_
  refine g_iload_n G dX6_isPersonTold_17 rfl (lv_at hl 1 rfl) ?_
  refine g_iconst (v := 1) G dX6_isPersonTold_18 rfl ?_
  refine g_iadd G dX6_isPersonTold_19 ?_
  obtain ⟨b1, hf⟩ := ck_open hf
  refine m_iald X hM (mIs.of mf_0) b1 dX6_isPersonTold_20 ?_
  refine g_iload_n G dX6_isPersonTold_21 rfl (lv_at hl 0 rfl) ?_
  obtain ⟨j86, hj86, hf⟩ := jn_open hf
  have J86 : ∀ (z2 : MS) (H : Heap) (locs : List Loc), j86 z2 = some (r, z') → MI D o ad H0 z2 H locs → ∀ ls : Array Slot, lv_has ls 4 [] → Z H locs 0 0 (F0 m 86 ls []) := by
    intro z2 H locs hf hM ls hl
    rw [hj86] at hf
    refine g_iconst (v := 0) G dX6_isPersonTold_86 rfl ?_
    exact m_zret X hM hf dX6_isPersonTold_87
  refine g_icmp_ge (tgt := 86) G dX6_isPersonTold_22 rfl (fun c1 => ?_) (fun c1 => ?_)
  · have hf := it_pos c1 hf
    exact J86 _ _ _ hf hM ls (lv_sub hl [] rfl)
  · have hf := it_neg c1 hf
    refine g_aload_n G dX6_isPersonTold_25 rfl (lv_at hl 2 rfl) ?_
    refine mg_a X hM mf_0 dX6_isPersonTold_26 ?_
    refine g_iload_n G dX6_isPersonTold_29 rfl (lv_at hl 1 rfl) ?_
    refine g_iconst (v := 2) G dX6_isPersonTold_30 rfl ?_
    refine g_iadd G dX6_isPersonTold_31 ?_
    obtain ⟨b2, hf⟩ := ck_open hf
    refine m_iald X hM (mIs.of mf_0) b2 dX6_isPersonTold_32 ?_
    refine g_iload_n G dX6_isPersonTold_33 rfl (lv_at hl 0 rfl) ?_
    refine g_icmp_ge (tgt := 86) G dX6_isPersonTold_34 rfl (fun c2 => ?_) (fun c2 => ?_)
    · have hf := it_pos c2 hf
      exact J86 _ _ _ hf hM ls (lv_sub hl [] rfl)
    · have hf := it_neg c2 hf
      refine g_aload_n G dX6_isPersonTold_37 rfl (lv_at hl 2 rfl) ?_
      refine mg_a X hM mf_0 dX6_isPersonTold_38 ?_
      refine g_iload_n G dX6_isPersonTold_41 rfl (lv_at hl 1 rfl) ?_
      refine g_iconst (v := 1) G dX6_isPersonTold_42 rfl ?_
      refine g_iadd G dX6_isPersonTold_43 ?_
      obtain ⟨b3, hf⟩ := ck_open hf
      refine m_iald X hM (mIs.of mf_0) b3 dX6_isPersonTold_44 ?_
      refine g_aload_n G dX6_isPersonTold_45 rfl (lv_at hl 2 rfl) ?_
      refine mg_a X hM mf_0 dX6_isPersonTold_46 ?_
      refine g_iload_n G dX6_isPersonTold_49 rfl (lv_at hl 1 rfl) ?_
      refine g_iconst (v := 2) G dX6_isPersonTold_50 rfl ?_
      refine g_iadd G dX6_isPersonTold_51 ?_
      obtain ⟨b4, hf⟩ := ck_open hf
      refine m_iald X hM (mIs.of mf_0) b4 dX6_isPersonTold_52 ?_
      refine g_iand G dX6_isPersonTold_53 ?_
      refine g_if_ne (tgt := 86) G dX6_isPersonTold_54 rfl (fun c3 => ?_) (fun c3 => ?_)
      · have hf := it_neg c3 hf
        exact J86 _ _ _ hf hM ls (lv_sub hl [] rfl)
      · have hf := it_pos c3 hf
        refine g_aload_n G dX6_isPersonTold_57 rfl (lv_at hl 2 rfl) ?_
        refine mg_a X hM mf_0 dX6_isPersonTold_58 ?_
        refine g_iload_n G dX6_isPersonTold_61 rfl (lv_at hl 1 rfl) ?_
        refine g_iconst (v := 3) G dX6_isPersonTold_62 rfl ?_
        refine g_iadd G dX6_isPersonTold_63 ?_
        obtain ⟨b5, hf⟩ := ck_open hf
        refine m_iald X hM (mIs.of mf_0) b5 dX6_isPersonTold_64 ?_
        refine g_bipush (v := 9) G dX6_isPersonTold_65 rfl ?_
        refine g_icmp_gt (tgt := 86) G dX6_isPersonTold_67 rfl (fun c4 => ?_) (fun c4 => ?_)
        · have hf := it_pos c4 hf
          exact J86 _ _ _ hf hM ls (lv_sub hl [] rfl)
        · have hf := it_neg c4 hf
          refine g_aload_n G dX6_isPersonTold_70 rfl (lv_at hl 2 rfl) ?_
          refine mg_a X hM mf_0 dX6_isPersonTold_71 ?_
          refine g_iload_n G dX6_isPersonTold_74 rfl (lv_at hl 1 rfl) ?_
          refine g_iconst (v := 4) G dX6_isPersonTold_75 rfl ?_
          refine g_iadd G dX6_isPersonTold_76 ?_
          obtain ⟨b6, hf⟩ := ck_open hf
          refine m_iald X hM (mIs.of mf_0) b6 dX6_isPersonTold_77 ?_
          refine g_iconst (v := 4) G dX6_isPersonTold_78 rfl ?_
          refine g_icmp_ge (tgt := 86) G dX6_isPersonTold_79 rfl (fun c5 => ?_) (fun c5 => ?_)
          · have hf := it_pos c5 hf
            exact J86 _ _ _ hf hM ls (lv_sub hl [] rfl)
          · have hf := it_neg c5 hf
            refine g_iconst (v := 1) G dX6_isPersonTold_82 rfl ?_
            refine g_goto (tgt := 87) G dX6_isPersonTold_83 rfl ?_
            exact m_zret X hM hf dX6_isPersonTold_87
theorem mc_isImage : mcV yX6_isImage cX6_isImage 3 (some .boolean) 1 669 := ⟨lw_V q2445 q2447 qs141 q157 q2448, ⟨rfl, by decide +kernel, by decide +kernel, by decide +kernel⟩, Nat.le_of_ble_eq_true rfl⟩
noncomputable def m_isImage_L103 (s103 : Int32 → MS → Option (Bool × MS)) (x1 : Int32) (z4 : MS) : Option (Bool × MS) :=
  bnd (m_personMany z4) fun r3 z5 =>
  if r3 ≤ x1 then
    some (true, z5)
  else
    bnd (m_isRing x1 z5) fun r4 z6 =>
    if (bI r4) = 0 then
      s103 (x1 + 1) z6
    else
      some (false, z6)
noncomputable def m_isImage_L60 (k101 : MS → Option (Bool × MS)) (s60 : Int32 → MS → Option (Bool × MS)) (x2 : Int32) (z7 : MS) : Option (Bool × MS) :=
  bnd (m_personMany z7) fun r5 z8 =>
  if r5 ≤ x2 then
    k101 z8
  else
    ck (inb (2 + (5 * x2)) (mN 0)) <|
    bnd (m_personMany z8) fun r6 z9 =>
    if r6 < (mA z8 0 (Int32.toNatClampNeg (2 + (5 * x2)))) then
      some (false, z9)
    else
      bnd (m_isPersonTold x2 z9) fun r7 z10 =>
      if (bI r7) = 0 then
        some (false, z10)
      else
        s60 (x2 + 1) z10
noncomputable def m_isImage (a1 : Int32) (z : MS) : Option (Bool × MS) :=
  bnd (m_personMany z) fun r1 z1 =>
  if a1 = (3 + (5 * r1)) then
    ck (inb (a1 - 1) (mN 0)) <|
    bnd (m_checked 0 (a1 - 1) z1) fun r2 z2 =>
    if (mA z1 0 (Int32.toNatClampNeg (a1 - 1))) = r2 then
      if ((256 * (mA z2 0 (Int32.toNatClampNeg 0))) + (mA z2 0 (Int32.toNatClampNeg 1))) ≤ 999 then
        jn (fun (z3 : MS) =>
          fx m_isImage_L103 (fun _ _ => none) FU 0 z3) fun k101 =>
        fx (m_isImage_L60 k101) (fun _ _ => none) FU 0 z2
      else
        some (false, z2)
    else
      some (false, z2)
  else
    some (false, z1)
set_option maxHeartbeats 1000000 in
theorem c_isImage {l : Launch} {D : MD} {o : Nat} {ad : Nat → Nat} {a1 : Int32} {z z' : MS} {r : Bool} (hf : m_isImage a1 z = some (r, z')) : MMet l D o ad yX6_isImage cX6_isImage 3 (some .boolean) 3 [.ref o, .int a1] z z' (some (.int (bI r))) := by
  unfold m_isImage at hf
  refine m_head pnX6 rfl (Nat.le_of_ble_eq_true rfl) (fun m Z H0 ls X hM hl => ?_)
  have G := X.g
  have hl : lv_has ls 3 [(0, .ref o), (1, .int a1)] := hl
  refine g_iload_n G dX6_isImage_0 rfl (lv_at hl 1 rfl) ?_
  refine g_iconst (v := 3) G dX6_isImage_1 rfl ?_
  refine g_iconst (v := 5) G dX6_isImage_2 rfl ?_
  refine g_aload_n G dX6_isImage_3 rfl (lv_at hl 0 rfl) ?_
  obtain ⟨r1, z1, h1, hf⟩ := bnd_open hf
  refine m_callVi (As := []) (rest := [.int 5, .int 3, .int a1]) X hM hl mc_personMany (c_personMany h1) rfl (Nat.le_of_ble_eq_true rfl) (Nat.le_of_ble_eq_true rfl) rfl dX6_isImage_4 (fun H locs hM => ?_)
  refine g_imul G dX6_isImage_7 ?_
  refine g_iadd G dX6_isImage_8 ?_
  refine g_icmp_ne (tgt := 56) G dX6_isImage_9 rfl (fun c1 => ?_) (fun c1 => ?_)
  · have hf := it_neg c1 hf
    refine g_iconst (v := 0) G dX6_isImage_56 rfl ?_
    exact m_zret X hM hf dX6_isImage_57
  · have hf := it_pos c1 hf
    refine g_aload_n G dX6_isImage_12 rfl (lv_at hl 0 rfl) ?_
    refine mg_a X hM mf_0 dX6_isImage_13 ?_
    refine g_iload_n G dX6_isImage_16 rfl (lv_at hl 1 rfl) ?_
    refine g_iconst (v := 1) G dX6_isImage_17 rfl ?_
    refine g_isub G dX6_isImage_18 ?_
    obtain ⟨b1, hf⟩ := ck_open hf
    refine m_iald X hM (mIs.of mf_0) b1 dX6_isImage_19 ?_
    refine g_aload_n G dX6_isImage_20 rfl (lv_at hl 0 rfl) ?_
    refine mg_a X hM mf_0 dX6_isImage_21 ?_
    refine g_iload_n G dX6_isImage_24 rfl (lv_at hl 1 rfl) ?_
    refine g_iconst (v := 1) G dX6_isImage_25 rfl ?_
    refine g_isub G dX6_isImage_26 ?_
    obtain ⟨r2, z2, h2, hf⟩ := bnd_open hf
    refine m_callSi (As := [.ref (ad 0), .int (a1 - 1)]) (rest := [.int (mA z1 0 (Int32.toNatClampNeg (a1 - 1)))]) X hM hl mc_checked (c_checked (mIs.of mf_0) h2) rfl (Nat.le_of_ble_eq_true rfl) (Nat.le_of_ble_eq_true rfl) rfl dX6_isImage_27 (fun H locs hM => ?_)
    refine g_icmp_ne (tgt := 56) G dX6_isImage_30 rfl (fun c2 => ?_) (fun c2 => ?_)
    · have hf := it_neg c2 hf
      refine g_iconst (v := 0) G dX6_isImage_56 rfl ?_
      exact m_zret X hM hf dX6_isImage_57
    · have hf := it_pos c2 hf
      refine g_sipush (v := 256) G dX6_isImage_33 rfl ?_
      refine g_aload_n G dX6_isImage_36 rfl (lv_at hl 0 rfl) ?_
      refine mg_a X hM mf_0 dX6_isImage_37 ?_
      refine g_iconst (v := 0) G dX6_isImage_40 rfl ?_
      refine m_iald X hM (mIs.of mf_0) (by decide) dX6_isImage_41 ?_
      refine g_imul G dX6_isImage_42 ?_
      refine g_aload_n G dX6_isImage_43 rfl (lv_at hl 0 rfl) ?_
      refine mg_a X hM mf_0 dX6_isImage_44 ?_
      refine g_iconst (v := 1) G dX6_isImage_47 rfl ?_
      refine m_iald X hM (mIs.of mf_0) (by decide) dX6_isImage_48 ?_
      refine g_iadd G dX6_isImage_49 ?_
      refine g_sipush (v := 999) G dX6_isImage_50 rfl ?_
      refine g_icmp_le (tgt := 58) G dX6_isImage_53 rfl (fun c3 => ?_) (fun c3 => ?_)
      · have hf := it_pos c3 hf
        refine g_iconst (v := 0) G dX6_isImage_58 rfl ?_
        refine g_istore_n (lv' := [(2, .int 0), (0, .ref o), (1, .int a1)]) G dX6_isImage_59 rfl hl (Nat.le_of_ble_eq_true rfl) rfl (fun ls hl => ?_)
        obtain ⟨k101, hk101, hf⟩ := jn_open hf
        have K101 : ∀ (z3 : MS) (H : Heap) (locs : List Loc), k101 z3 = some (r, z') → MI D o ad H0 z3 H locs → ∀ ls : Array Slot, lv_has ls 3 [(0, .ref o)] → Z H locs 0 0 (F0 m 101 ls []) := by
          intro z3 H locs hf hM ls hl
          rw [hk101] at hf
          refine g_iconst (v := 0) G dX6_isImage_101 rfl ?_
          refine g_istore_n (lv' := [(2, .int 0), (0, .ref o)]) G dX6_isImage_102 rfl hl (Nat.le_of_ble_eq_true rfl) rfl (fun ls hl => ?_)
          have L103 : ∀ (n : Nat) (x1 : Int32) (z4 : MS) (H : Heap) (locs : List Loc), fx m_isImage_L103 (fun _ _ => none) n x1 z4 = some (r, z') → MI D o ad H0 z4 H locs → ∀ ls : Array Slot, lv_has ls 3 [(0, .ref o), (2, .int x1)] → Z H locs 0 0 (F0 m 103 ls []) := by
            intro n
            induction n with
            | zero => intro x1 z4 H locs hf; exact absurd hf (by intro q; cases q)
            | succ n ih103 =>
              intro x1 z4 H locs hf hM ls hl
              rw [fx_s] at hf
              generalize fx m_isImage_L103 (fun _ _ => none) n = s103 at hf ih103
              unfold m_isImage_L103 at hf
              refine g_iload_n G dX6_isImage_103 rfl (lv_at hl 1 rfl) ?_
              refine g_aload_n G dX6_isImage_104 rfl (lv_at hl 0 rfl) ?_
              obtain ⟨r3, z5, h3, hf⟩ := bnd_open hf
              refine m_callVi (As := []) (rest := [.int x1]) X hM hl mc_personMany (c_personMany h3) rfl (Nat.le_of_ble_eq_true rfl) (Nat.le_of_ble_eq_true rfl) rfl dX6_isImage_105 (fun H locs hM => ?_)
              refine g_icmp_ge (tgt := 127) G dX6_isImage_108 rfl (fun c4 => ?_) (fun c4 => ?_)
              · have hf := it_pos c4 hf
                refine g_iconst (v := 1) G dX6_isImage_127 rfl ?_
                exact m_zret X hM hf dX6_isImage_128
              · have hf := it_neg c4 hf
                refine g_aload_n G dX6_isImage_111 rfl (lv_at hl 0 rfl) ?_
                refine g_iload_n G dX6_isImage_112 rfl (lv_at hl 1 rfl) ?_
                obtain ⟨r4, z6, h4, hf⟩ := bnd_open hf
                refine m_callVi (As := [.int x1]) (rest := []) X hM hl mc_isRing (c_isRing h4) rfl (Nat.le_of_ble_eq_true rfl) (Nat.le_of_ble_eq_true rfl) rfl dX6_isImage_113 (fun H locs hM => ?_)
                refine g_if_eq (tgt := 121) G dX6_isImage_116 rfl (fun c5 => ?_) (fun c5 => ?_)
                · have hf := it_pos c5 hf
                  refine g_iinc (v := x1 + 1) (lv' := [(2, .int (x1 + 1)), (0, .ref o)]) G dX6_isImage_121 hl (k := 1) rfl rfl (Nat.le_of_ble_eq_true rfl) rfl (fun ls hl => ?_)
                  refine g_goto (tgt := 103) G dX6_isImage_124 rfl ?_
                  exact ih103 _ _ _ _ hf hM ls (lv_sub hl [1, 0] rfl)
                · have hf := it_neg c5 hf
                  refine g_iconst (v := 0) G dX6_isImage_119 rfl ?_
                  exact m_zret X hM hf dX6_isImage_120
          exact L103 FU _ _ _ _ hf hM ls (lv_sub hl [1, 0] rfl)
        have L60 : ∀ (n : Nat) (x2 : Int32) (z7 : MS) (H : Heap) (locs : List Loc), fx (m_isImage_L60 k101) (fun _ _ => none) n x2 z7 = some (r, z') → MI D o ad H0 z7 H locs → ∀ ls : Array Slot, lv_has ls 3 [(0, .ref o), (2, .int x2)] → Z H locs 0 0 (F0 m 60 ls []) := by
          intro n
          induction n with
          | zero => intro x2 z7 H locs hf; exact absurd hf (by intro q; cases q)
          | succ n ih60 =>
            intro x2 z7 H locs hf hM ls hl
            rw [fx_s] at hf
            generalize fx (m_isImage_L60 k101) (fun _ _ => none) n = s60 at hf ih60
            unfold m_isImage_L60 at hf
            refine g_iload_n G dX6_isImage_60 rfl (lv_at hl 1 rfl) ?_
            refine g_aload_n G dX6_isImage_61 rfl (lv_at hl 0 rfl) ?_
            obtain ⟨r5, z8, h5, hf⟩ := bnd_open hf
            refine m_callVi (As := []) (rest := [.int x2]) X hM hl mc_personMany (c_personMany h5) rfl (Nat.le_of_ble_eq_true rfl) (Nat.le_of_ble_eq_true rfl) rfl dX6_isImage_62 (fun H locs hM => ?_)
            refine g_icmp_ge (tgt := 101) G dX6_isImage_65 rfl (fun c6 => ?_) (fun c6 => ?_)
            · have hf := it_pos c6 hf
              exact K101 _ _ _ hf hM ls (lv_sub hl [0] rfl)
            · have hf := it_neg c6 hf
              refine g_aload_n G dX6_isImage_68 rfl (lv_at hl 0 rfl) ?_
              refine mg_a X hM mf_0 dX6_isImage_69 ?_
              refine g_iconst (v := 2) G dX6_isImage_72 rfl ?_
              refine g_iconst (v := 5) G dX6_isImage_73 rfl ?_
              refine g_iload_n G dX6_isImage_74 rfl (lv_at hl 1 rfl) ?_
              refine g_imul G dX6_isImage_75 ?_
              refine g_iadd G dX6_isImage_76 ?_
              obtain ⟨b2, hf⟩ := ck_open hf
              refine m_iald X hM (mIs.of mf_0) b2 dX6_isImage_77 ?_
              refine g_aload_n G dX6_isImage_78 rfl (lv_at hl 0 rfl) ?_
              obtain ⟨r6, z9, h6, hf⟩ := bnd_open hf
              refine m_callVi (As := []) (rest := [.int (mA z8 0 (Int32.toNatClampNeg (2 + (5 * x2))))]) X hM hl mc_personMany (c_personMany h6) rfl (Nat.le_of_ble_eq_true rfl) (Nat.le_of_ble_eq_true rfl) rfl dX6_isImage_79 (fun H locs hM => ?_)
              refine g_icmp_gt (tgt := 93) G dX6_isImage_82 rfl (fun c7 => ?_) (fun c7 => ?_)
              · have hf := it_pos c7 hf
                refine g_iconst (v := 0) G dX6_isImage_93 rfl ?_
                exact m_zret X hM hf dX6_isImage_94
              · have hf := it_neg c7 hf
                refine g_aload_n G dX6_isImage_85 rfl (lv_at hl 0 rfl) ?_
                refine g_iload_n G dX6_isImage_86 rfl (lv_at hl 1 rfl) ?_
                obtain ⟨r7, z10, h7, hf⟩ := bnd_open hf
                refine m_callVi (As := [.int x2]) (rest := []) X hM hl mc_isPersonTold (c_isPersonTold h7) rfl (Nat.le_of_ble_eq_true rfl) (Nat.le_of_ble_eq_true rfl) rfl dX6_isImage_87 (fun H locs hM => ?_)
                refine g_if_ne (tgt := 95) G dX6_isImage_90 rfl (fun c8 => ?_) (fun c8 => ?_)
                · have hf := it_neg c8 hf
                  refine g_iinc (v := x2 + 1) (lv' := [(2, .int (x2 + 1)), (0, .ref o)]) G dX6_isImage_95 hl (k := 1) rfl rfl (Nat.le_of_ble_eq_true rfl) rfl (fun ls hl => ?_)
                  refine g_goto (tgt := 60) G dX6_isImage_98 rfl ?_
                  exact ih60 _ _ _ _ hf hM ls (lv_sub hl [1, 0] rfl)
                · have hf := it_pos c8 hf
                  refine g_iconst (v := 0) G dX6_isImage_93 rfl ?_
                  exact m_zret X hM hf dX6_isImage_94
        exact L60 FU _ _ _ _ hf hM ls (lv_sub hl [1, 0] rfl)
      · have hf := it_neg c3 hf
        refine g_iconst (v := 0) G dX6_isImage_56 rfl ?_
        exact m_zret X hM hf dX6_isImage_57
noncomputable def m_on_L87 (x1 : Int32) (k122 : MS → Option (Bool × MS)) (s87 : Int32 → MS → Option (Bool × MS)) (x2 : Int32) (z11 : MS) : Option (Bool × MS) :=
  if 5 ≤ x2 then
    k122 z11
  else
    ck (inb ((2 + (5 * x1)) + x2) (mN 0)) <|
    ck (inb ((1 + (5 * x1)) + x2) (mN 53)) <|
    nm (wA z11 53 (Int32.toNatClampNeg ((1 + (5 * x1)) + x2)) (mA z11 0 (Int32.toNatClampNeg ((2 + (5 * x1)) + x2)))) fun z12 =>
    s87 (x2 + 1) z12
noncomputable def m_on_L55 (k128 : MS → Option (Bool × MS)) (s55 : Int32 → MS → Option (Bool × MS)) (x1 : Int32) (z7 : MS) : Option (Bool × MS) :=
  bnd (m_personMany z7) fun r2 z8 =>
  if r2 ≤ x1 then
    k128 z8
  else
    ck (inb (2 + (5 * x1)) (mN 0)) <|
    ck (inb (1 + (5 * x1)) (mN 53)) <|
    nm (wA z8 53 (Int32.toNatClampNeg (1 + (5 * x1))) ((mA z8 0 (Int32.toNatClampNeg (2 + (5 * x1)))) - 1)) fun z9 =>
    jn (fun (z10 : MS) =>
      s55 (x1 + 1) z10) fun k122 =>
    fx (m_on_L87 x1 k122) (fun _ _ => none) FU 1 z9
noncomputable def m_on (z : MS) : Option (Bool × MS) :=
  nm (wI z 1 0) fun z1 =>
  bnd (m_isImage (mI z 1) z1) fun r1 z2 =>
  if (bI r1) = 0 then
    nm (wA z2 9 (Int32.toNatClampNeg 5) ((mA z2 9 (Int32.toNatClampNeg 5)) + 1)) fun z13 =>
    some (false, z13)
  else
    nm (wA z2 53 (Int32.toNatClampNeg 0) ((256 * (mA z2 0 (Int32.toNatClampNeg 0))) + (mA z2 0 (Int32.toNatClampNeg 1)))) fun z3 =>
    jn (fun (z4 : MS) =>
      nm (wA z4 53 (Int32.toNatClampNeg 41) 0) fun z5 =>
      nm (wI z5 65 0) fun z6 =>
      some (true, z6)) fun k128 =>
    fx (m_on_L55 k128) (fun _ _ => none) FU 0 z3
set_option maxHeartbeats 1000000 in
theorem c_on {l : Launch} {D : MD} {o : Nat} {ad : Nat → Nat} {z z' : MS} {r : Bool} (hf : m_on z = some (r, z')) : MMet l D o ad yX6_on cX6_on 4 (some .boolean) 4 [.ref o] z z' (some (.int (bI r))) := by
  unfold m_on at hf
  refine m_head pnX6 rfl (Nat.le_of_ble_eq_true rfl) (fun m Z H0 ls X hM hl => ?_)
  have G := X.g
  have hl : lv_has ls 4 [(0, .ref o)] := hl
  refine g_aload_n G dX6_on_0 rfl (lv_at hl 0 rfl) ?_
  refine mg_i X hM mf_1 dX6_on_1 ?_
  refine g_istore_n (lv' := [(1, .int (mI z 1)), (0, .ref o)]) G dX6_on_4 rfl hl (Nat.le_of_ble_eq_true rfl) rfl (fun ls hl => ?_)
  refine g_aload_n G dX6_on_5 rfl (lv_at hl 1 rfl) ?_
  refine g_iconst (v := 0) G dX6_on_6 rfl ?_
  obtain ⟨z1, hz1, hf⟩ := nm_open hf
  refine mp_i X hM mf_1 hz1 dX6_on_7 (fun H locs hM => ?_)
  refine g_aload_n G dX6_on_10 rfl (lv_at hl 1 rfl) ?_
  refine g_iload_n G dX6_on_11 rfl (lv_at hl 0 rfl) ?_
  obtain ⟨r1, z2, h1, hf⟩ := bnd_open hf
  refine m_callVi (As := [.int (mI z 1)]) (rest := []) X hM hl mc_isImage (c_isImage h1) rfl (Nat.le_of_ble_eq_true rfl) (Nat.le_of_ble_eq_true rfl) rfl dX6_on_12 (fun H locs hM => ?_)
  refine g_if_ne (tgt := 30) G dX6_on_15 rfl (fun c1 => ?_) (fun c1 => ?_)
  · have hf := it_neg c1 hf
    refine g_aload_n G dX6_on_30 rfl (lv_at hl 1 rfl) ?_
    refine mg_a X hM mf_53 dX6_on_31 ?_
    refine g_iconst (v := 0) G dX6_on_34 rfl ?_
    refine g_sipush (v := 256) G dX6_on_35 rfl ?_
    refine g_aload_n G dX6_on_38 rfl (lv_at hl 1 rfl) ?_
    refine mg_a X hM mf_0 dX6_on_39 ?_
    refine g_iconst (v := 0) G dX6_on_42 rfl ?_
    refine m_iald X hM (mIs.of mf_0) (by decide) dX6_on_43 ?_
    refine g_imul G dX6_on_44 ?_
    refine g_aload_n G dX6_on_45 rfl (lv_at hl 1 rfl) ?_
    refine mg_a X hM mf_0 dX6_on_46 ?_
    refine g_iconst (v := 1) G dX6_on_49 rfl ?_
    refine m_iald X hM (mIs.of mf_0) (by decide) dX6_on_50 ?_
    refine g_iadd G dX6_on_51 ?_
    obtain ⟨z3, hz3, hf⟩ := nm_open hf
    refine m_iast X hM (mIs.of mf_53) (by decide) hz3 dX6_on_52 (fun H locs hM => ?_)
    refine g_iconst (v := 0) G dX6_on_53 rfl ?_
    refine g_istore_n (lv' := [(2, .int 0), (1, .int (mI z 1)), (0, .ref o)]) G dX6_on_54 rfl hl (Nat.le_of_ble_eq_true rfl) rfl (fun ls hl => ?_)
    obtain ⟨k128, hk128, hf⟩ := jn_open hf
    have K128 : ∀ (z4 : MS) (H : Heap) (locs : List Loc), k128 z4 = some (r, z') → MI D o ad H0 z4 H locs → ∀ ls : Array Slot, lv_has ls 4 [(0, .ref o)] → Z H locs 0 0 (F0 m 128 ls []) := by
      intro z4 H locs hf hM ls hl
      rw [hk128] at hf
      refine g_aload_n G dX6_on_128 rfl (lv_at hl 0 rfl) ?_
      refine mg_a X hM mf_53 dX6_on_129 ?_
      refine g_bipush (v := 41) G dX6_on_132 rfl ?_
      refine g_iconst (v := 0) G dX6_on_134 rfl ?_
      obtain ⟨z5, hz5, hf⟩ := nm_open hf
      refine m_iast X hM (mIs.of mf_53) (by decide) hz5 dX6_on_135 (fun H locs hM => ?_)
      refine g_aload_n G dX6_on_136 rfl (lv_at hl 0 rfl) ?_
      refine g_iconst (v := 0) G dX6_on_137 rfl ?_
      obtain ⟨z6, hz6, hf⟩ := nm_open hf
      refine mp_i X hM mf_65 hz6 dX6_on_138 (fun H locs hM => ?_)
      refine g_iconst (v := 1) G dX6_on_141 rfl ?_
      exact m_zret X hM hf dX6_on_142
    have L55 : ∀ (n : Nat) (x1 : Int32) (z7 : MS) (H : Heap) (locs : List Loc), fx (m_on_L55 k128) (fun _ _ => none) n x1 z7 = some (r, z') → MI D o ad H0 z7 H locs → ∀ ls : Array Slot, lv_has ls 4 [(0, .ref o), (2, .int x1)] → Z H locs 0 0 (F0 m 55 ls []) := by
      intro n
      induction n with
      | zero => intro x1 z7 H locs hf; exact absurd hf (by intro q; cases q)
      | succ n ih55 =>
        intro x1 z7 H locs hf hM ls hl
        rw [fx_s] at hf
        generalize fx (m_on_L55 k128) (fun _ _ => none) n = s55 at hf ih55
        unfold m_on_L55 at hf
        refine g_iload_n G dX6_on_55 rfl (lv_at hl 1 rfl) ?_
        refine g_aload_n G dX6_on_56 rfl (lv_at hl 0 rfl) ?_
        obtain ⟨r2, z8, h2, hf⟩ := bnd_open hf
        refine m_callVi (As := []) (rest := [.int x1]) X hM hl mc_personMany (c_personMany h2) rfl (Nat.le_of_ble_eq_true rfl) (Nat.le_of_ble_eq_true rfl) rfl dX6_on_57 (fun H locs hM => ?_)
        refine g_icmp_ge (tgt := 128) G dX6_on_60 rfl (fun c2 => ?_) (fun c2 => ?_)
        · have hf := it_pos c2 hf
          exact K128 _ _ _ hf hM ls (lv_sub hl [0] rfl)
        · have hf := it_neg c2 hf
          refine g_aload_n G dX6_on_63 rfl (lv_at hl 0 rfl) ?_
          refine mg_a X hM mf_53 dX6_on_64 ?_
          refine g_iconst (v := 1) G dX6_on_67 rfl ?_
          refine g_iconst (v := 5) G dX6_on_68 rfl ?_
          refine g_iload_n G dX6_on_69 rfl (lv_at hl 1 rfl) ?_
          refine g_imul G dX6_on_70 ?_
          refine g_iadd G dX6_on_71 ?_
          refine g_aload_n G dX6_on_72 rfl (lv_at hl 0 rfl) ?_
          refine mg_a X hM mf_0 dX6_on_73 ?_
          refine g_iconst (v := 2) G dX6_on_76 rfl ?_
          refine g_iconst (v := 5) G dX6_on_77 rfl ?_
          refine g_iload_n G dX6_on_78 rfl (lv_at hl 1 rfl) ?_
          refine g_imul G dX6_on_79 ?_
          refine g_iadd G dX6_on_80 ?_
          obtain ⟨b1, hf⟩ := ck_open hf
          refine m_iald X hM (mIs.of mf_0) b1 dX6_on_81 ?_
          refine g_iconst (v := 1) G dX6_on_82 rfl ?_
          refine g_isub G dX6_on_83 ?_
          obtain ⟨b2, hf⟩ := ck_open hf
          obtain ⟨z9, hz9, hf⟩ := nm_open hf
          refine m_iast X hM (mIs.of mf_53) b2 hz9 dX6_on_84 (fun H locs hM => ?_)
          refine g_iconst (v := 1) G dX6_on_85 rfl ?_
          refine g_istore_n (lv' := [(3, .int 1), (0, .ref o), (2, .int x1)]) G dX6_on_86 rfl hl (Nat.le_of_ble_eq_true rfl) rfl (fun ls hl => ?_)
          obtain ⟨k122, hk122, hf⟩ := jn_open hf
          have K122 : ∀ (z10 : MS) (H : Heap) (locs : List Loc), k122 z10 = some (r, z') → MI D o ad H0 z10 H locs → ∀ ls : Array Slot, lv_has ls 4 [(0, .ref o), (2, .int x1)] → Z H locs 0 0 (F0 m 122 ls []) := by
            intro z10 H locs hf hM ls hl
            rw [hk122] at hf
            refine g_iinc (v := x1 + 1) (lv' := [(2, .int (x1 + 1)), (0, .ref o)]) G dX6_on_122 hl (k := 1) rfl rfl (Nat.le_of_ble_eq_true rfl) rfl (fun ls hl => ?_)
            refine g_goto (tgt := 55) G dX6_on_125 rfl ?_
            exact ih55 _ _ _ _ hf hM ls (lv_sub hl [1, 0] rfl)
          have L87 : ∀ (n : Nat) (x2 : Int32) (z11 : MS) (H : Heap) (locs : List Loc), fx (m_on_L87 x1 k122) (fun _ _ => none) n x2 z11 = some (r, z') → MI D o ad H0 z11 H locs → ∀ ls : Array Slot, lv_has ls 4 [(0, .ref o), (2, .int x1), (3, .int x2)] → Z H locs 0 0 (F0 m 87 ls []) := by
            intro n
            induction n with
            | zero => intro x2 z11 H locs hf; exact absurd hf (by intro q; cases q)
            | succ n ih87 =>
              intro x2 z11 H locs hf hM ls hl
              rw [fx_s] at hf
              generalize fx (m_on_L87 x1 k122) (fun _ _ => none) n = s87 at hf ih87
              unfold m_on_L87 at hf
              refine g_iload_n G dX6_on_87 rfl (lv_at hl 2 rfl) ?_
              refine g_iconst (v := 5) G dX6_on_88 rfl ?_
              refine g_icmp_ge (tgt := 122) G dX6_on_89 rfl (fun c3 => ?_) (fun c3 => ?_)
              · have hf := it_pos c3 hf
                exact K122 _ _ _ hf hM ls (lv_sub hl [0, 1] rfl)
              · have hf := it_neg c3 hf
                refine g_aload_n G dX6_on_92 rfl (lv_at hl 0 rfl) ?_
                refine mg_a X hM mf_53 dX6_on_93 ?_
                refine g_iconst (v := 1) G dX6_on_96 rfl ?_
                refine g_iconst (v := 5) G dX6_on_97 rfl ?_
                refine g_iload_n G dX6_on_98 rfl (lv_at hl 1 rfl) ?_
                refine g_imul G dX6_on_99 ?_
                refine g_iadd G dX6_on_100 ?_
                refine g_iload_n G dX6_on_101 rfl (lv_at hl 2 rfl) ?_
                refine g_iadd G dX6_on_102 ?_
                refine g_aload_n G dX6_on_103 rfl (lv_at hl 0 rfl) ?_
                refine mg_a X hM mf_0 dX6_on_104 ?_
                refine g_iconst (v := 2) G dX6_on_107 rfl ?_
                refine g_iconst (v := 5) G dX6_on_108 rfl ?_
                refine g_iload_n G dX6_on_109 rfl (lv_at hl 1 rfl) ?_
                refine g_imul G dX6_on_110 ?_
                refine g_iadd G dX6_on_111 ?_
                refine g_iload_n G dX6_on_112 rfl (lv_at hl 2 rfl) ?_
                refine g_iadd G dX6_on_113 ?_
                obtain ⟨b3, hf⟩ := ck_open hf
                refine m_iald X hM (mIs.of mf_0) b3 dX6_on_114 ?_
                obtain ⟨b4, hf⟩ := ck_open hf
                obtain ⟨z12, hz12, hf⟩ := nm_open hf
                refine m_iast X hM (mIs.of mf_53) b4 hz12 dX6_on_115 (fun H locs hM => ?_)
                refine g_iinc (v := x2 + 1) (lv' := [(3, .int (x2 + 1)), (0, .ref o), (2, .int x1)]) G dX6_on_116 hl (k := 2) rfl rfl (Nat.le_of_ble_eq_true rfl) rfl (fun ls hl => ?_)
                refine g_goto (tgt := 87) G dX6_on_119 rfl ?_
                exact ih87 _ _ _ _ hf hM ls (lv_sub hl [1, 2, 0] rfl)
          exact L87 FU _ _ _ _ hf hM ls (lv_sub hl [1, 2, 0] rfl)
    exact L55 FU _ _ _ _ hf hM ls (lv_sub hl [2, 0] rfl)
  · have hf := it_pos c1 hf
    refine g_aload_n G dX6_on_18 rfl (lv_at hl 1 rfl) ?_
    refine mg_a X hM mf_9 dX6_on_19 ?_
    refine g_iconst (v := 5) G dX6_on_22 rfl ?_
    refine g_dup2_11 G dX6_on_23 rfl rfl ?_
    refine m_iald X hM (mIs.of mf_9) (by decide) dX6_on_24 ?_
    refine g_iconst (v := 1) G dX6_on_25 rfl ?_
    refine g_iadd G dX6_on_26 ?_
    obtain ⟨z13, hz13, hf⟩ := nm_open hf
    refine m_iast X hM (mIs.of mf_9) (by decide) hz13 dX6_on_27 (fun H locs hM => ?_)
    refine g_iconst (v := 0) G dX6_on_28 rfl ?_
    exact m_zret X hM hf dX6_on_29
noncomputable def m_status (a1 : Int32) (z : MS) : Option (Int32 × MS) :=
  bnd (m_isIn (Int32.toInt64 a1) 0 5 z) fun r1 z1 =>
  if (bI r1) = 0 then
    some ((-1), z1)
  else
    ck (inb a1 (mN 9)) <|
    some ((mA z1 9 (Int32.toNatClampNeg a1)), z1)
set_option maxHeartbeats 1000000 in
theorem c_status {l : Launch} {D : MD} {o : Nat} {ad : Nat → Nat} {a1 : Int32} {z z' : MS} {r : Int32} (hf : m_status a1 z = some (r, z')) : MMet l D o ad yX6_status cX6_status 2 (some .int) 2 [.ref o, .int a1] z z' (some (.int r)) := by
  unfold m_status at hf
  refine m_head pnX6 rfl (Nat.le_of_ble_eq_true rfl) (fun m Z H0 ls X hM hl => ?_)
  have G := X.g
  have hl : lv_has ls 2 [(0, .ref o), (1, .int a1)] := hl
  refine g_iload_n G dX6_status_0 rfl (lv_at hl 1 rfl) ?_
  refine g_i2l (v := Int32.toInt64 a1) G dX6_status_1 rfl ?_
  refine g_lconst (v := 0) G dX6_status_2 rfl ?_
  refine g_ldc2 G q2161 dX6_status_3 ?_
  obtain ⟨r1, z1, h1, hf⟩ := bnd_open hf
  refine m_callSi (As := [.long (Int32.toInt64 a1), .long 0, .long 5]) (rest := []) X hM hl mc_isIn (c_isIn h1) rfl (Nat.le_of_ble_eq_true rfl) (Nat.le_of_ble_eq_true rfl) rfl dX6_status_6 (fun H locs hM => ?_)
  refine g_if_eq (tgt := 21) G dX6_status_9 rfl (fun c1 => ?_) (fun c1 => ?_)
  · have hf := it_pos c1 hf
    refine g_iconst (v := (-1)) G dX6_status_21 rfl ?_
    exact m_iret X hM hf dX6_status_22
  · have hf := it_neg c1 hf
    refine g_aload_n G dX6_status_12 rfl (lv_at hl 0 rfl) ?_
    refine mg_a X hM mf_9 dX6_status_13 ?_
    refine g_iload_n G dX6_status_16 rfl (lv_at hl 1 rfl) ?_
    obtain ⟨b1, hf⟩ := ck_open hf
    refine m_iald X hM (mIs.of mf_9) b1 dX6_status_17 ?_
    refine g_goto (tgt := 22) G dX6_status_18 rfl ?_
    exact m_iret X hM hf dX6_status_22
