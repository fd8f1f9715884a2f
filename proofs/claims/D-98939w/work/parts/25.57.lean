/-! PART 57: plain: the Model: probe -/
set_option maxRecDepth 100000
theorem mBk.hr {l : List (Nat × Nat)} {z y : MS} (h : mBk z y) (g : mHr l z) : mHr l y := g.of (h.1 60 (by decide) (by decide) (by decide) (by decide)) (h.2.2.1 61 (by decide) (by decide) (by decide) (by decide) (by decide))
theorem mPutW.hr {l : List (Nat × Nat)} {z y : MS} (h : mPutW z y) (g : mHr l z) : mHr l y := g.of (h.1 60 (by decide)) (h.2.2.1 61 (by decide) (by decide))
theorem mT.a63 {k : SK} {z1 x : MS} {v : SW} (h : mT k z1 v x) : mA x 63 = mA z1 63 := by
  obtain ⟨c, -, h2, -⟩ := h
  exact h2.2.2.1 63 (by decide) (by decide) (by decide) (by decide)
theorem x3 (p v : Nat) : (3 : Int32) * nI p + nI v = nI (3 * p + v) := by rw [show (3 : Int32) = nI 3 from rfl, nI_mul, nI_add]
theorem x30 (p : Nat) : (3 : Int32) * nI p = nI (3 * p) := by rw [show (3 : Int32) = nI 3 from rfl, nI_mul]
theorem m_probe_last {k : SK} {w : SW} {y : MS} {l : List (Nat × Nat)} {f n : Nat} {Q : Int32 × MS → Prop} {K : Int32 → Int32 → MS → Option (Int32 × MS)} (hy : mOk k w y) (hc : ∀ p, p < kP k → ∀ v, v < 3 → mA y 63 (3 * p + v) = nI (sCls k w l f n (kP k) p v)) (hK : Ok (K (nI (sPrbA k w l f n).1 - 1) (nI (sPrbA k w l f n).2) y) Q) : Ok (fx (m_probe_L149 (nI (sCnt k w l f n (kP k))) K) (fun _ _ _ _ => none) FU (-1) 0 0 y) Q := by
  have h8 := hy.1.2.1
  have hcnt := sCnt_le k w l f n (kP k)
  unfold sPrbA at hK
  refine fx_okN (F := m_probe_L149 (nI (sCnt k w l f n (kP k))) K) (z := fun _ _ _ _ => none) (fun s j (b : (Nat × Nat) × MS) => s (nI b.1.1 - 1) (nI b.1.2) (nI j) b.2) (kP k) (fun j b => b.2 = y ∧ (b.1 = if sCnt k w l f n (kP k) = 0 then (0, 0) else sPrb k w l f n j)) Q ?_ ?_ FU 0 ((0, 0), y) (Nat.zero_le _) ⟨rfl, by split <;> rfl⟩ (FU_gt (by omega))
  · rintro s j ⟨a, x⟩ hj ⟨hxy, ha⟩ go
    have hxy : x = y := hxy
    have ha : a = if sCnt k w l f n (kP k) = 0 then (0, 0) else sPrb k w l f n j := ha
    subst hxy
    show Ok (m_probe_L149 (nI (sCnt k w l f n (kP k))) K s (nI a.1 - 1) (nI a.2) (nI j) x) Q
    unfold m_probe_L149
    rw [m_personMany_v hy, bnd_s, if_neg (nI_ge hj (by omega))]
    by_cases c0 : sCnt k w l f n (kP k) = 0
    · rw [if_pos c0] at hK ha
      rw [c0, if_pos (by decide), ha]
      exact hK
    · rw [if_neg c0] at ha
      rw [if_neg c0] at go
      obtain ⟨i1, i2⟩ := sPrb_in k w l f n j
      rw [← ha] at i1 i2
      have hS : sPrb k w l f n (j + 1) = sPrbS k w l f n j a := by rw [ha]; exact itN_S _ _ _
      have b0 := sCls_le k w l f n (kP k) j 0
      have b1 := sCls_le k w l f n (kP k) j 1
      have b2 := sCls_le k w l f n (kP k) j 2
      have e0 := hc j hj 0 (by decide)
      have e1 := hc j hj 1 (by decide)
      have e2 := hc j hj 2 (by decide)
      rw [Nat.add_zero] at e0
      have i0 : inb (nI (3 * j)) (mN 63) = true := inb_nI (by show _ < 24; omega) (by decide)
      have i1 : inb (nI (3 * j + 1)) (mN 63) = true := inb_nI (by show _ < 24; omega) (by decide)
      have i2 : inb (nI (3 * j + 2)) (mN 63) = true := inb_nI (by show _ < 24; omega) (by decide)
      have y1 : nI (3 * j) + 1 = nI (3 * j + 1) := nI_1 _
      have y2 : nI (3 * j) + 2 = nI (3 * j + 2) := nI_add _ 2
      rw [if_neg (nI_nle (by omega) (by omega))]
      simp only [jn_s, y1, y2, x30, ck_t i0, ck_t i1, ck_t i2, nI_c (show 3 * j < 2 ^ 31 by omega), nI_c (show 3 * j + 1 < 2 ^ 31 by omega), nI_c (show 3 * j + 2 < 2 ^ 31 by omega), e0, e1, e2]
      unfold sPrbS at hS
      -- what is most
      have last : ∀ m, m = sMst k w l f n j → Ok (if nI a.1 - 1 = (-1) then s (nI j) (nI m) (nI j + 1) x else if nI m < nI a.2 then s (nI j) (nI m) (nI j + 1) x else s (nI a.1 - 1) (nI a.2) (nI j + 1) x) Q := fun m hm => by
        have hml := sMst_le k w l f n j
        rw [← hm] at hS hml
        rw [nI_1]
        have yes : (a.1 = 0 ∨ m < a.2) → Ok (s (nI j) (nI m) (nI (j + 1)) x) Q := fun hq => by
          rw [if_pos hq] at hS
          have := go ((j + 1, m), x) ⟨rfl, hS.symm⟩
          have this : Ok (s (nI (j + 1) - 1) (nI m) (nI (j + 1)) x) Q := this
          rw [nI_pred] at this
          exact this
        by_cases ca : a.1 = 0
        · rw [if_pos (by rw [ca]; decide)]
          exact yes (Or.inl ca)
        · rw [if_neg (m1_ne ca (by omega))]
          by_cases cm : m < a.2
          · rw [if_pos (nI_lt cm (by omega))]
            exact yes (Or.inr cm)
          · rw [if_neg (nI_nlt (by omega) (by omega))]
            rw [if_neg (by omega)] at hS
            exact go (a, x) ⟨rfl, hS.symm⟩
      generalize hm0 : sCls k w l f n (kP k) j 0 = m0 at b0 ⊢
      generalize hm1 : sCls k w l f n (kP k) j 1 = m1 at b1 ⊢
      generalize hm2 : sCls k w l f n (kP k) j 2 = m2 at b2 ⊢
      have hms : sMst k w l f n j = max m0 (max m1 m2) := by unfold sMst; rw [hm0, hm1, hm2]
      have second : ∀ m, m = max m0 m1 → Ok (if nI m2 ≤ nI m then (if nI a.1 - 1 = (-1) then s (nI j) (nI m) (nI j + 1) x else if nI m < nI a.2 then s (nI j) (nI m) (nI j + 1) x else s (nI a.1 - 1) (nI a.2) (nI j + 1) x) else (if nI a.1 - 1 = (-1) then s (nI j) (nI m2) (nI j + 1) x else if nI m2 < nI a.2 then s (nI j) (nI m2) (nI j + 1) x else s (nI a.1 - 1) (nI a.2) (nI j + 1) x)) Q := fun m hm => by
        by_cases c2 : m2 ≤ m
        · rw [if_pos (nI_le c2 (by omega))]
          exact last m (by rw [hms]; omega)
        · rw [if_neg (nI_ge (by omega) (by omega))]
          exact last m2 (by rw [hms]; omega)
      by_cases c1 : m1 ≤ m0
      · rw [if_pos (nI_le c1 (by omega))]
        exact second m0 (by omega)
      · rw [if_neg (nI_ge (by omega) (by omega))]
        exact second m1 (by omega)
  · rintro s ⟨a, x⟩ ⟨hxy, ha⟩
    have hxy : x = y := hxy
    have ha : a = if sCnt k w l f n (kP k) = 0 then (0, 0) else sPrb k w l f n (kP k) := ha
    subst hxy
    show Ok (m_probe_L149 (nI (sCnt k w l f n (kP k))) K s (nI a.1 - 1) (nI a.2) (nI (kP k)) x) Q
    unfold m_probe_L149
    rw [m_personMany_v hy, bnd_s, if_pos (nI_le (Nat.le_refl _) (by omega)), ha]
    exact hK
theorem m_probe_v {k : SK} {w : SW} {z : MS} {l : List (Nat × Nat)} (h : mOk k w z) (hz : mI z 58 = bI false) (hl : mHr l z) (hk : hrOk k l) (a n what : Int32) : Ok (m_probe a n what z) (fun r => r.1 = (if sPn (kF k) a = true ∧ sAh w n 0 20 = true ∧ sIn what 0 1 = true then spProbe k w l a.toNatClampNeg n.toNatClampNeg what else -1) ∧ mBk z r.2) := by
  unfold m_probe
  rw [m_isFact_s h, bnd_s]
  cases c : sPn (kF k) a with
  | false => exact Ok.of ⟨rfl, mBk.rf z⟩
  | true =>
  have h8 := h.1.2.1
  have hF8 := h.1.1
  obtain ⟨f, hf, rfl⟩ := sPn_nat c hF8
  rw [if_neg (by decide), m_isAhead_v h n 0 20 (by decide) (by decide), bnd_s, show (0 : Int32).toInt = 0 from by decide, show (20 : Int32).toInt = 20 from by decide]
  cases c1 : sAh w n 0 20 with
  | false => exact Ok.of ⟨rfl, mBk.rf z⟩
  | true =>
  obtain ⟨n, rfl, -, h20, h99⟩ := sAh_nat c1 (by decide) (by decide)
  rw [if_neg (by decide), m_isIn_i, bnd_s, show (0 : Int64).toInt = 0 from by decide, show (1 : Int64).toInt = 1 from by decide]
  cases c2 : sIn what 0 1 with
  | false => exact Ok.of ⟨rfl, mBk.rf z⟩
  | true =>
  rw [if_neg (by decide), if_pos ⟨rfl, rfl, rfl⟩, nI_c (by omega), nI_c (by omega)]
  simp only [jn_s]
  refine fx_okN (F := m_probe_L37 _) (z := fun _ _ => none) (fun s j y => s (nI j) y) 24 (fun j y => mBk z y ∧ ∀ i, i < j → mA y 63 i = 0) _ ?_ ?_ FU 0 z (Nat.zero_le _) ⟨mBk.rf z, fun i hi => absurd hi (Nat.not_lt_zero _)⟩ (FU_gt (by decide))
  · rintro s j y hj ⟨hb, h0⟩ go
    show Ok (m_probe_L37 _ s (nI j) y) _
    unfold m_probe_L37
    rw [if_neg (show ¬ (24 : Int32) ≤ nI j from nI_ge (b := 24) hj (by decide)), ck_t (inb_nI (by show _ < 24; omega) (by decide)), nm_s, nI_c (by omega), nI_1]
    refine go _ ⟨hb.tr ⟨fun _ _ _ _ _ => rfl, rfl, fun a _ _ _ _ g5 => mA_wne y g5 _ _, fun _ _ => rfl⟩, fun i hi => ?_⟩
    rw [mA_w]
    by_cases e : i = j
    · rw [if_pos e]
    · rw [if_neg e]
      exact h0 i (by omega)
  · rintro s y0 ⟨hb0, h0⟩
    have hk0 := hb0.ok h
    have hz0 : mI y0 58 = bI false := by rw [hb0.1 58 (by decide) (by decide) (by decide) (by decide), hz]
    have hl0 := hb0.hr hl
    show Ok (m_probe_L37 _ s (nI 24) y0) _
    unfold m_probe_L37
    rw [if_pos (by decide)]
    refine Ok.bnv _ (m_putsAside_v hk0) (fun z1 hz1 => ?_)
    obtain ⟨th, hput⟩ := hz1
    have hput : mPut y0 z1 := hput
    -- the sources, one by one
    refine fx_okN (F := m_probe_L65 (nI f) (nI n) _) (z := fun _ _ _ => none) (fun s j (b : Nat × MS) => s (nI b.1) (nI j) b.2) (kP k) (fun j b => b.1 = sCnt k w l f n j ∧ ∃ z1, mTh k w z1 ∧ mPutW y0 z1 ∧ mT k z1 w b.2 ∧ ∀ p, p < kP k → ∀ v, v < 3 → mA z1 63 (3 * p + v) = nI (sCls k w l f n j p v)) _ ?_ ?_ FU 0 (0, z1) (Nat.zero_le _) ⟨rfl, z1, th, hput.w, th.t, fun p hp v hv => ?_⟩ (FU_gt (by omega))
    · rintro s j ⟨a, x⟩ hj ⟨ha, z1, th, hput, hx, hcl⟩ go
      have ha : a = sCnt k w l f n j := ha
      have hx : mT k z1 w x := hx
      have hS : sCnt k w l f n (j + 1) = a + if sSrc k w l j f n = true then 1 else 0 := by rw [ha]; exact cnt_S _ _
      show Ok (m_probe_L65 (nI f) (nI n) _ s (nI a) (nI j) x) _
      unfold m_probe_L65
      rw [m_personMany_v hx.ok, bnd_s, if_neg (nI_ge hj (by omega))]
      refine Ok.bnd _ (m_isSource_v th hx (hput.hr hl0) hk hj hf (n := n) (by omega)) (fun r y hr => ?_)
      obtain ⟨e, hy', h62⟩ := hr
      have e : r = sSrc k w l j f n := e
      have hy' : mT k z1 w y := hy'
      simp only [jn_s]
      cases r with
      | false =>
        rw [if_pos (by decide), nI_1]
        rw [← e, if_neg (by decide), Nat.add_zero] at hS
        refine go (a, y) ⟨hS.symm, z1, th, hput, hy', fun p hp v hv => ?_⟩
        rw [hcl p hp v hv]
        have : sCls k w l f n (j + 1) p v = sCls k w l f n j p v + if sSrc k w l j f n = true ∧ sIs (sSrcV k w j f n) p f = v then 1 else 0 := cnt_S _ _
        rw [this, ← e, if_neg (by simp), Nat.add_zero]
      | true =>
        rw [if_neg (by decide)]
        rw [← e, if_pos rfl] at hS
        have h62 : ∀ p, p < kP k → mA y 62 p = nI (sIs (sSrcV k w j f n) p f) := h62 rfl
        refine fx_okN (F := m_probe_L94 (nI a) _) (z := fun _ _ => none) (fun s j y => s (nI j) y) (kP k) (fun i y => (∀ p, p < kP k → mA y 62 p = nI (sIs (sSrcV k w j f n) p f)) ∧ ∃ z1, mTh k w z1 ∧ mPutW y0 z1 ∧ mT k z1 w y ∧ ∀ p, p < kP k → ∀ v, v < 3 → mA z1 63 (3 * p + v) = nI (sCls k w l f n j p v + if p < i ∧ sIs (sSrcV k w j f n) p f = v then 1 else 0)) _ ?_ ?_ FU 0 y (Nat.zero_le _) ⟨h62, z1, th, hput, hy', fun p hp v hv => by rw [hcl p hp v hv, if_neg (by omega), Nat.add_zero]⟩ (FU_gt (by omega))
        · rintro s2 i y2 hi ⟨g62, z2, th2, hput2, hy2, hcl2⟩ go2
          have l3 := sIs_lt (sSrcV k w j f n) i f
          show Ok (m_probe_L94 (nI a) _ s2 (nI i) y2) _
          unfold m_probe_L94
          rw [m_personMany_v hy2.ok, bnd_s, if_neg (nI_ge hi (by omega)), ck_t (inb_nI (by show _ < 8; omega) (by decide)), nI_c (by omega), g62 i hi, x3, ck_t (inb_nI (by show _ < 24; omega) (by decide)), ck_t (inb_nI (by show _ < 24; omega) (by decide)), nm_s, nI_c (by omega), nI_1]
          rw [hy2.a63]
          refine go2 _ ⟨fun p hp => by rw [mA_wne _ (by decide)]; exact g62 p hp, _, th2.put63 _ _, hput2.put63 _ _, hy2.put63 _ _, fun p hp v hv => ?_⟩
          rw [mA_w, hcl2 p hp v hv, hcl2 i hi _ l3]
          by_cases ep : p = i
          · subst ep
            by_cases ev : sIs (sSrcV k w j f n) p f = v
            · subst ev
              rw [if_pos rfl, if_neg (by omega), if_pos ⟨by omega, rfl⟩, Nat.add_zero, nI_1]
            · rw [if_neg (by omega), if_neg (fun q => ev q.2), if_neg (fun q => ev q.2)]
          · rw [if_neg (by omega)]
            by_cases ev : p < i ∧ sIs (sSrcV k w j f n) p f = v
            · rw [if_pos ev, if_pos ⟨by omega, ev.2⟩]
            · rw [if_neg ev, if_neg (fun q => ev ⟨by omega, q.2⟩)]
        · rintro s2 y2 ⟨g62, z2, th2, hput2, hy2, hcl2⟩
          show Ok (m_probe_L94 (nI a) _ s2 (nI (kP k)) y2) _
          unfold m_probe_L94
          rw [m_personMany_v hy2.ok, bnd_s, if_pos (nI_le (Nat.le_refl _) (by omega)), nI_1, nI_1]
          refine go (a + 1, y2) ⟨hS.symm, z2, th2, hput2, hy2, fun p hp v hv => ?_⟩
          rw [hcl2 p hp v hv]
          have : sCls k w l f n (j + 1) p v = sCls k w l f n j p v + if sSrc k w l j f n = true ∧ sIs (sSrcV k w j f n) p f = v then 1 else 0 := cnt_S _ _
          rw [this, ← e]
          by_cases ev : sIs (sSrcV k w j f n) p f = v
          · rw [if_pos ⟨hp, ev⟩, if_pos ⟨rfl, ev⟩]
          · rw [if_neg (fun q => ev q.2), if_neg (fun q => ev q.2)]
    · rintro s ⟨a, x⟩ ⟨ha, z1, th, hput, hx, hcl⟩
      have ha : a = sCnt k w l f n (kP k) := ha
      have hx : mT k z1 w x := hx
      show Ok (m_probe_L65 (nI f) (nI n) _ s (nI a) (nI (kP k)) x) _
      unfold m_probe_L65
      rw [m_personMany_v hx.ok, bnd_s, if_pos (nI_le (Nat.le_refl _) (by omega)), ha]
      refine Ok.bnv _ (m_takesBack_w hz0 th hput hx) (fun y hy' => ?_)
      obtain ⟨hyb, h63⟩ := hy'
      refine m_probe_last (w := w) (l := l) (f := f) (n := n) (hyb.ok hk0) (fun p hp v hv => by rw [h63]; exact hcl p hp v hv) ?_
      unfold spProbe
      have hin : (sPrbA k w l f n).1 ≤ kP k := by
        unfold sPrbA
        split
        · exact Nat.zero_le _
        · exact (sPrb_in k w l f n (kP k)).1
      generalize sPrbA k w l f n = b at hin ⊢
      show Ok (if nI b.1 - 1 = (-1) then some ((-1), y) else if what = 0 then some (nI b.1 - 1, y) else some (nI b.2, y)) _
      by_cases c0 : b.1 = 0
      · rw [c0, if_pos (by decide), if_pos (Or.inl rfl)]
        exact Ok.of ⟨(by show (-1 : Int32) = nI 0 - 1; decide), hb0.tr hyb⟩
      · rw [if_neg (m1_ne c0 (by omega))]
        by_cases cw : what = 0
        · rw [if_pos cw, if_pos (Or.inr cw)]
          exact Ok.of ⟨rfl, hb0.tr hyb⟩
        · rw [if_neg cw, if_neg (by rintro (q | q); exact c0 q; exact cw q)]
          exact Ok.of ⟨rfl, hb0.tr hyb⟩
    · rw [hput.2.2.1 63 (by decide), h0 _ (by omega)]
      rfl
