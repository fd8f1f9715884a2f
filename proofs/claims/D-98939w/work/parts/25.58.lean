/-! PART 58: plain: the Model: part; keeps, undo -/
set_option maxRecDepth 100000
theorem nI_and (a b : Nat) : nI a &&& nI b = nI (a &&& b) := Int32.toBitVec_inj.mp (by
  show BitVec.ofNat 32 a &&& BitVec.ofNat 32 b = BitVec.ofNat 32 (a &&& b)
  exact BitVec.ofNat_and.symm)
theorem and_256 {a b : Nat} (h : a < 256) : a &&& b < 256 := Nat.lt_of_le_of_lt Nat.and_le_left h
/-- whether a set of facts parts good ones from bad ones -/
def sPar (k : SK) (w : SW) (good bad set : Nat) : Bool := (List.range (kP k)).all fun a => (List.range (kP k)).all fun b => !(good.testBit a && bad.testBit b && decide (pop (wR w a &&& set) ≤ pop (wR w b &&& set)))
def sParC (w : SW) (good bad set a b : Nat) : Prop := good.testBit a = true → bad.testBit b = true → pop (wR w b &&& set) < pop (wR w a &&& set)
theorem sPar_iff (k : SK) (w : SW) (good bad set : Nat) : sPar k w good bad set = true ↔ ∀ a, a < kP k → ∀ b, b < kP k → sParC w good bad set a b := by
  unfold sPar sParC
  simp only [List.all_eq_true, List.mem_range]
  constructor
  · intro h a ha b hb g1 g2
    have := h a ha b hb
    rw [g1, g2] at this
    simpa using this
  · intro h a ha b hb
    have := h a ha b hb
    cases g1 : good.testBit a with
    | false => rfl
    | true =>
      cases g2 : bad.testBit b with
      | false => rfl
      | true => simpa using this g1 g2
theorem sPar_no {k : SK} {w : SW} {good bad set a b : Nat} (ha : a < kP k) (hb : b < kP k) (h : ¬ sParC w good bad set a b) : sPar k w good bad set = false := by
  cases e : sPar k w good bad set with
  | false => rfl
  | true => exact absurd ((sPar_iff k w good bad set).mp e a ha b hb) h
theorem m_areParted_v {k : SK} {w : SW} {z : MS} (h : mOk k w z) {good bad set : Nat} (hg : good < 256) (hb : bad < 256) : m_areParted (nI good) (nI bad) (nI set) z = some (sPar k w good bad set, z) := by
  have h8 := h.1.2.1
  have fin : Ok (m_areParted (nI good) (nI bad) (nI set) z) (fun r => r = (sPar k w good bad set, z)) := by
    unfold m_areParted
    refine fx_okN (F := m_areParted_L3 (nI good) (nI bad) (nI set)) (z := fun _ _ => none) (fun s j x => s (nI j) x) (kP k) (fun j x => x = z ∧ ∀ a, a < j → ∀ b, b < kP k → sParC w good bad set a b) _ ?_ ?_ FU 0 z (Nat.zero_le _) ⟨rfl, fun a ha => absurd ha (Nat.not_lt_zero _)⟩ (FU_gt (by omega))
    · rintro s j x hj ⟨rfl, hn⟩ go
      show Ok (m_areParted_L3 (nI good) (nI bad) (nI set) s (nI j) x) _
      unfold m_areParted_L3
      rw [m_personMany_v h, bnd_s, if_neg (nI_ge hj (by omega)), jn_s]
      refine fx_okN (F := m_areParted_L15 (nI good) (nI bad) (nI set) (nI j) _) (z := fun _ _ => none) (fun s i x => s (nI i) x) (kP k) (fun i y => y = x ∧ ∀ b, b < i → sParC w good bad set j b) _ ?_ ?_ FU 0 x (Nat.zero_le _) ⟨rfl, fun a ha => absurd ha (Nat.not_lt_zero _)⟩ (FU_gt (by omega))
      · rintro s2 i y hi ⟨rfl, hn2⟩ go2
        have gon : sParC w good bad set j i → Ok (s2 (nI i + 1) y) (fun r => r = (sPar k w good bad set, y)) := fun hc => by
          rw [nI_1]
          refine go2 y ⟨rfl, fun b hb' => ?_⟩
          by_cases e : b = i
          · rw [e]; exact hc
          · exact hn2 b (by omega)
        show Ok (m_areParted_L15 (nI good) (nI bad) (nI set) (nI j) _ s2 (nI i) y) _
        unfold m_areParted_L15
        rw [m_personMany_v h, bnd_s, if_neg (nI_ge hi (by omega)), jn_s]
        by_cases c1 : good.testBit j = true
        · rw [if_pos ((s_has _ hg j (by omega)).mpr c1)]
          by_cases c2 : bad.testBit i = true
          · have p1 := pop_le _ (and_256 (b := set) (h.r8 hj))
            have p2 := pop_le _ (and_256 (b := set) (h.r8 hi))
            rw [if_pos ((s_has _ hb i (by omega)).mpr c2), m_rightOf_v h hj, bnd_s, nI_and, m_bits_v (and_256 (h.r8 hj)), bnd_s, m_rightOf_v h hi, bnd_s, nI_and, m_bits_v (and_256 (h.r8 hi)), bnd_s]
            by_cases c3 : pop (wR w i &&& set) < pop (wR w j &&& set)
            · rw [if_pos (nI_lt c3 (by omega))]
              exact gon (fun _ _ => c3)
            · rw [if_neg (nI_nlt (by omega) (by omega))]
              refine Ok.of ?_
              rw [sPar_no hj hi (fun q => c3 (q c1 c2))]
          · rw [if_neg (fun q => c2 ((s_has _ hb i (by omega)).mp q))]
            exact gon (fun _ q => absurd q c2)
        · rw [if_neg (fun q => c1 ((s_has _ hg j (by omega)).mp q))]
          exact gon (fun q => absurd q c1)
      · rintro s2 y ⟨rfl, hn2⟩
        show Ok (m_areParted_L15 (nI good) (nI bad) (nI set) (nI j) _ s2 (nI (kP k)) y) _
        unfold m_areParted_L15
        rw [m_personMany_v h, bnd_s, if_pos (nI_le (Nat.le_refl _) (by omega)), nI_1]
        refine go y ⟨rfl, fun a ha b hb' => ?_⟩
        by_cases e : a = j
        · rw [e]; exact hn2 b hb'
        · exact hn a (by omega) b hb'
    · rintro s x ⟨rfl, hn⟩
      show Ok (m_areParted_L3 (nI good) (nI bad) (nI set) s (nI (kP k)) x) _
      unfold m_areParted_L3
      rw [m_personMany_v h, bnd_s, if_pos (nI_le (Nat.le_refl _) (by omega)), (sPar_iff k w good bad set).mpr hn]
      exact Ok.of rfl
  obtain ⟨r, e, rfl⟩ := fin
  exact e
def sPrtS (k : SK) (w : SW) (good bad set a : Nat) : Nat := if (a = 0 ∨ pop set < pop (a - 1)) ∧ sPar k w good bad set = true then set + 1 else a
/-- the smallest set that parts (+ 1) -/
def sPrt (k : SK) (w : SW) (good bad m : Nat) : Nat := itN (sPrtS k w good bad) m 0 0
theorem sPrt_in (k : SK) (w : SW) (good bad : Nat) : ∀ m, sPrt k w good bad m ≤ m
  | 0 => Nat.le_refl _
  | m + 1 => by
    have h := sPrt_in k w good bad m
    have e : sPrt k w good bad (m + 1) = sPrtS k w good bad m (sPrt k w good bad m) := itN_S _ _ _
    rw [e]
    unfold sPrtS
    split <;> omega
theorem shl_nI : ∀ n, n < 9 → (1 : Int32) <<< (nI n &&& 31) = nI (2 ^ n) := by decide +kernel
def spPart (k : SK) (w : SW) (a b : Int32) : Int32 := if sIn a 0 (2 ^ kP k - 1) = true ∧ sIn b 0 (2 ^ kP k - 1) = true ∧ a &&& b = 0 then nI (sPrt k w a.toNatClampNeg b.toNatClampNeg (2 ^ kF k)) - 1 else -1
theorem m_part_v {k : SK} {w : SW} {z : MS} (h : mOk k w z) (a b : Int32) : Ok (m_part a b z) (fun r => r.1 = spPart k w a b ∧ mBk z r.2) := by
  have h8 := h.1.2.1
  have hF8 := h.1.1
  have p8 := two8 h8
  have pF := two8 hF8
  have p0 : 0 < 2 ^ kP k := Nat.two_pow_pos _
  have f0 : 0 < 2 ^ kF k := Nat.two_pow_pos _
  have top : (Int32.toInt64 ((1 : Int32) <<< (nI (kP k) &&& 31) - 1)).toInt = ((2 ^ kP k : Nat) : Int) - 1 := by
    rw [shl_nI _ (by omega), nI_m1 p0, Int32.toInt_toInt64, nI_toInt (by omega)]
    omega
  have pcast : ((2 ^ kP k : Nat) : Int) = (2 : Int) ^ kP k := by simp
  unfold m_part spPart
  rw [m_personMany_v h, bnd_s, m_isIn_i, bnd_s, top, show (0 : Int64).toInt = 0 from by decide, pcast]
  cases c1 : sIn a 0 ((2 : Int) ^ kP k - 1) with
  | false =>
    rw [if_pos (by decide), if_neg (by simp)]
    exact Ok.of ⟨rfl, mBk.rf z⟩
  | true =>
  rw [if_neg (by decide), m_isIn_i, bnd_s, top, show (0 : Int64).toInt = 0 from by decide, pcast]
  cases c2 : sIn b 0 ((2 : Int) ^ kP k - 1) with
  | false =>
    rw [if_pos (by decide), if_neg (by simp)]
    exact Ok.of ⟨rfl, mBk.rf z⟩
  | true =>
  rw [if_neg (by decide)]
  by_cases c3 : a &&& b = 0
  · rw [if_pos c3, if_pos ⟨rfl, rfl, c3⟩]
    rw [← pcast] at c1 c2
    obtain ⟨good, rfl, -, hg⟩ := sIn_nat c1 (by decide) (by omega)
    obtain ⟨bad, rfl, -, hb⟩ := sIn_nat c2 (by decide) (by omega)
    rw [nI_c (by omega), nI_c (by omega)]
    refine fx_okN (F := m_part_L45 (nI good) (nI bad)) (z := fun _ _ _ => none) (fun s j (b : Nat × MS) => s (nI b.1 - 1) (nI j) b.2) (2 ^ kF k) (fun j b => b.1 = sPrt k w good bad j ∧ b.2 = z) _ ?_ ?_ FU 0 (0, z) (Nat.zero_le _) ⟨rfl, rfl⟩ (FU_gt (by omega))
    · rintro s j ⟨a, x⟩ hj ⟨ha, hx⟩ go
      have ha : a = sPrt k w good bad j := ha
      have hx : x = z := hx
      subst hx
      have hin := sPrt_in k w good bad j
      rw [← ha] at hin
      have hS : sPrt k w good bad (j + 1) = sPrtS k w good bad j a := by rw [ha]; exact itN_S _ _ _
      unfold sPrtS at hS
      show Ok (m_part_L45 (nI good) (nI bad) s (nI a - 1) (nI j) x) _
      unfold m_part_L45
      rw [m_factMany_v h, bnd_s, shl_nI _ (by omega), if_neg (nI_ge hj (by omega))]
      simp only [jn_s]
      have keep : ¬ ((a = 0 ∨ pop j < pop (a - 1)) ∧ sPar k w good bad j = true) → Ok (s (nI a - 1) (nI j + 1) x) (fun r => r.1 = nI (sPrt k w good bad (2 ^ kF k)) - 1 ∧ mBk x r.2) := fun hc => by
        rw [if_neg hc] at hS
        rw [nI_1]
        exact go (a, x) ⟨hS.symm, rfl⟩
      have try1 : (a = 0 ∨ pop j < pop (a - 1)) → Ok (bnd (m_areParted (nI good) (nI bad) (nI j) x) fun r5 z8 => if (bI r5) = 0 then s (nI a - 1) (nI j + 1) z8 else s (nI j) (nI j + 1) z8) (fun r => r.1 = nI (sPrt k w good bad (2 ^ kF k)) - 1 ∧ mBk x r.2) := fun hc => by
        rw [m_areParted_v h (by omega) (by omega), bnd_s]
        cases cp : sPar k w good bad j with
        | false =>
          rw [if_pos (by decide)]
          exact keep (fun q => by rw [cp] at q; cases q.2)
        | true =>
          rw [if_neg (by decide), nI_1]
          rw [if_pos ⟨hc, cp⟩] at hS
          have := go (j + 1, x) ⟨hS.symm, rfl⟩
          have this : Ok (s (nI (j + 1) - 1) (nI (j + 1)) x) _ := this
          rw [nI_pred] at this
          exact this
      by_cases c0 : a = 0
      · rw [if_pos (by rw [c0]; decide)]
        exact try1 (Or.inl c0)
      · have q1 := pop_le j (by omega)
        have q2 := pop_le (a - 1) (by omega)
        rw [if_neg (m1_ne c0 (by omega)), m_bits_v (by omega), bnd_s, nI_m1 (by omega), m_bits_v (by omega), bnd_s, ← nI_m1 (show 0 < a by omega)]
        by_cases cl : pop (a - 1) ≤ pop j
        · rw [if_pos (nI_le cl (by omega))]
          exact keep (by rintro ⟨q | q, -⟩; exact c0 q; omega)
        · rw [if_neg (nI_ge (by omega) (by omega))]
          exact try1 (Or.inr (by omega))
    · rintro s ⟨a, x⟩ ⟨ha, hx⟩
      have ha : a = sPrt k w good bad (2 ^ kF k) := ha
      have hx : x = z := hx
      subst hx
      show Ok (m_part_L45 (nI good) (nI bad) s (nI a - 1) (nI (2 ^ kF k)) x) _
      unfold m_part_L45
      rw [m_factMany_v h, bnd_s, shl_nI _ (by omega), if_pos (nI_le (Nat.le_refl _) (by omega)), ha]
      exact Ok.of ⟨rfl, mBk.rf x⟩
  · rw [if_neg c3, if_neg (fun q => c3 q.2.2)]
    exact Ok.of ⟨rfl, mBk.rf z⟩
/-! acts: what is kept in the ring -/
/-- a block of 132 numbers holds what is -/
def bSt (k : SK) (w : SW) (f : Nat → Int32) : Prop := (f 0 = nI (wY w) ∧ (∀ p, p < kP k → f (1 + 5 * p) = nI (wM w p) - 1 ∧ f (1 + 5 * p + 1) = nI (wR w p) ∧ f (1 + 5 * p + 2) = nI (wW w p) ∧ f (1 + 5 * p + 3) = nI (wL' w p) ∧ f (1 + 5 * p + 4) = nI (wF w p))) ∧ (wK w).length ≤ 30 ∧ f 41 = nI (wK w).length ∧ ∀ i, i < (wK w).length → f (42 + 3 * i) = nI ((wK w).getD i (0, 0, 0)).1 ∧ f (42 + 3 * i + 1) = nI ((wK w).getD i (0, 0, 0)).2.1 ∧ f (42 + 3 * i + 2) = nI ((wK w).getD i (0, 0, 0)).2.2
theorem bSt_iff (k : SK) (w : SW) (z : MS) : bSt k w (mA z 53) ↔ mSW k w z ∧ mRow (wK w) z := Iff.rfl
theorem bSt_congr {k : SK} {w : SW} {f g : Nat → Int32} (h8 : kP k ≤ 8) (h : bSt k w f) (e : ∀ i, i < 132 → g i = f i) : bSt k w g := by
  obtain ⟨⟨h1, h2⟩, h3, h4, h5⟩ := h
  refine ⟨⟨by rw [e 0 (by decide)]; exact h1, fun p hp => ?_⟩, h3, by rw [e 41 (by decide)]; exact h4, fun i hi => ?_⟩
  · rw [e _ (by omega), e _ (by omega), e _ (by omega), e _ (by omega), e _ (by omega)]
    exact h2 p hp
  · rw [e _ (by omega), e _ (by omega), e _ (by omega)]
    exact h5 i hi
/-- what was, last first: it lies in the ring -/
def mUnd (k : SK) (us : List SW) (z : MS) : Prop := us.length ≤ 20 ∧ mI z 65 = nI us.length ∧ ∃ t, t < 20 ∧ mI z 66 = nI t ∧ ∀ i, i < us.length → bSt k (us.getD i default) (fun j => mA z 64 (132 * ((t + 20 - i) % 20) + j))
theorem ring1 : ∀ t, t < 20 → (nI t + 1) - (nI t + 1) / 20 * 20 = nI ((t + 1) % 20) := by decide +kernel
theorem ring2 : ∀ t, t < 20 → ((nI t + 20) - 1) - ((nI t + 20) - 1) / 20 * 20 = nI ((t + 19) % 20) := by decide +kernel
theorem x132 (t j : Nat) : (132 : Int32) * nI t + nI j = nI (132 * t + j) := by rw [show (132 : Int32) = nI 132 from rfl, nI_mul, nI_add]
def sPush (us : List SW) (w : SW) : List SW := (w :: us).take 20
/-- z' is z but for the ring -/
def mRg (z z' : MS) : Prop := (∀ a, a ≠ 65 → a ≠ 66 → mI z' a = mI z a) ∧ z'.2.1 = z.2.1 ∧ (∀ a, a ≠ 64 → mA z' a = mA z a) ∧ z'.2.2.2 = z.2.2.2
theorem m_keeps_v {k : SK} {w : SW} {us : List SW} {z : MS} (h : mOk k w z) (hr : mRow (wK w) z) (hu : mUnd k us z) : Ok (m_keeps z) (fun z' => mUnd k (sPush us w) z' ∧ mRg z z') := by
  obtain ⟨hl, h65, t, ht, h66, hb⟩ := hu
  have h8 := h.1.2.1
  have tl : (t + 1) % 20 < 20 := Nat.mod_lt _ (by decide)
  unfold m_keeps
  rw [nm_s, h66, ring1 t ht, jn_s]
  refine fx_okN (F := m_keeps_L15 _) (z := fun _ _ => none) (fun s j y => s (nI j) y) 132 (fun j y => (∀ a, a ≠ 66 → mI y a = mI z a) ∧ mI y 66 = nI ((t + 1) % 20) ∧ y.2.1 = z.2.1 ∧ (∀ a, a ≠ 64 → mA y a = mA z a) ∧ y.2.2.2 = z.2.2.2 ∧ ∀ i, mA y 64 i = if 132 * ((t + 1) % 20) ≤ i ∧ i < 132 * ((t + 1) % 20) + j then mA z 53 (i - 132 * ((t + 1) % 20)) else mA z 64 i) _ ?_ ?_ FU 0 (wI z 66 (nI ((t + 1) % 20))) (Nat.zero_le _) ⟨fun a ha => by rw [mI_w, if_neg ha], by rw [mI_w, if_pos rfl], rfl, fun _ _ => rfl, rfl, fun i => by rw [if_neg (by omega)]; rfl⟩ (FU_gt (by decide))
  · rintro s j y hj ⟨e1, e2, e3, e4, e5, e6⟩ go
    show Ok (m_keeps_L15 _ s (nI j) y) _
    unfold m_keeps_L15
    rw [if_neg (show ¬ (132 : Int32) ≤ nI j from nI_ge (b := 132) hj (by decide)), e2, x132, ck_t (inb_nI (by show _ < 132; omega) (by decide)), ck_t (inb_nI (by show _ < 2640; omega) (by decide)), nm_s, nI_c (by omega), nI_c (by omega), nI_1]
    refine go _ ⟨e1, e2, e3, fun a ha => by rw [mA_wne _ ha, e4 a ha], e5, fun i => ?_⟩
    rw [mA_w, e4 53 (by decide), e6]
    by_cases c : i = 132 * ((t + 1) % 20) + j
    · rw [if_pos c, if_pos (by omega), c, show 132 * ((t + 1) % 20) + j - 132 * ((t + 1) % 20) = j by omega]
    · rw [if_neg c]
      by_cases c2 : 132 * ((t + 1) % 20) ≤ i ∧ i < 132 * ((t + 1) % 20) + j
      · rw [if_pos c2, if_pos (by omega)]
      · rw [if_neg c2, if_neg (by omega)]
  · rintro s y ⟨e1, e2, e3, e4, e5, e6⟩
    show Ok (m_keeps_L15 _ s (nI 132) y) _
    unfold m_keeps_L15
    rw [if_pos (by decide)]
    have g65 : mI y 65 = nI us.length := by rw [e1 65 (by decide), h65]
    have blk : ∀ i, i < (sPush us w).length → bSt k ((sPush us w).getD i default) (fun j => mA y 64 (132 * (((t + 1) % 20 + 20 - i) % 20) + j)) := by
      intro i hi
      have hi20 : i < 20 := by
        have : (sPush us w).length ≤ 20 := by unfold sPush; simp; omega
        omega
      have hiu : i ≤ us.length := by
        have : (sPush us w).length ≤ us.length + 1 := by unfold sPush; simp; omega
        omega
      have hget : (sPush us w).getD i default = (w :: us).getD i default := by
        unfold sPush
        rw [List.getD_eq_getElem?_getD, List.getD_eq_getElem?_getD, List.getElem?_take, if_pos hi20]
      rw [hget]
      cases i with
      | zero =>
        show bSt k w _
        refine bSt_congr h8 ((bSt_iff k w z).mpr ⟨h.2.2.2, hr⟩) (fun j hj => ?_)
        show mA y 64 (132 * (((t + 1) % 20 + 20 - 0) % 20) + j) = _
        rw [show ((t + 1) % 20 + 20 - 0) % 20 = (t + 1) % 20 by omega, e6, if_pos (by omega), show 132 * ((t + 1) % 20) + j - 132 * ((t + 1) % 20) = j by omega]
      | succ i =>
        show bSt k (us.getD i default) _
        refine bSt_congr h8 (hb i (by omega)) (fun j hj => ?_)
        show mA y 64 (132 * (((t + 1) % 20 + 20 - (i + 1)) % 20) + j) = mA z 64 (132 * ((t + 20 - i) % 20) + j)
        have em : ((t + 1) % 20 + 20 - (i + 1)) % 20 = (t + 20 - i) % 20 := by omega
        have ne : (t + 20 - i) % 20 ≠ (t + 1) % 20 := by omega
        rw [em, e6, if_neg (by omega)]
    by_cases c : us.length = 20
    · show Ok (if (20 : Int32) ≤ mI y 65 then some y else nm (wI y 65 (mI y 65 + 1)) fun z3 => some z3) _
      rw [if_pos (show (20 : Int32) ≤ mI y 65 by rw [g65, c]; decide)]
      refine Ok.of ⟨⟨?_, ?_, _, tl, e2, blk⟩, fun a _ h2 => e1 a h2, e3, e4, e5⟩
      · unfold sPush; simp; omega
      · rw [g65]
        congr 1
        unfold sPush
        simp
        omega
    · show Ok (if (20 : Int32) ≤ mI y 65 then some y else nm (wI y 65 (mI y 65 + 1)) fun z3 => some z3) _
      rw [if_neg (show ¬ (20 : Int32) ≤ mI y 65 by rw [g65]; exact nI_ge (b := 20) (by omega) (by decide)), nm_s]
      refine Ok.of ⟨⟨?_, ?_, _, tl, by rw [mI_w, if_neg (by decide)]; exact e2, blk⟩, fun a h1 h2 => by rw [mI_w, if_neg h1]; exact e1 a h2, e3, e4, e5⟩
      · unfold sPush; simp; omega
      · rw [mI_w, if_pos rfl, g65, nI_1]
        congr 1
        unfold sPush
        simp
        omega
theorem m_undo_v {k : SK} {us : List SW} {z : MS} (h8 : kP k ≤ 8) (hu : mUnd k us z) : Ok (m_undo z) (fun r => if us = [] then r.1 = false ∧ r.2 = wA z 9 4 (mA z 9 4 + 1) else r.1 = true ∧ bSt k (us.getD 0 default) (mA r.2 53) ∧ mUnd k (us.drop 1) r.2 ∧ (∀ a, a ≠ 65 → a ≠ 66 → mI r.2 a = mI z a) ∧ r.2.2.1 = z.2.1 ∧ (∀ a, a ≠ 53 → mA r.2 a = mA z a) ∧ r.2.2.2.2 = z.2.2.2) := by
  obtain ⟨hl, h65, t, ht, h66, hb⟩ := hu
  unfold m_undo
  rw [h65]
  cases us with
  | nil =>
    rw [if_pos (show nI ([] : List SW).length = 0 from rfl), nm_s, show (Int32.toNatClampNeg 4) = 4 from by decide]
    refine Ok.of ?_
    rw [if_pos rfl]
    exact ⟨rfl, rfl⟩
  | cons u us =>
  have hlu : us.length + 1 ≤ 20 := hl
  rw [if_neg (show ¬ nI (u :: us).length = 0 from nI_ne0 (by show 0 < us.length + 1; omega) (by show us.length + 1 < 2 ^ 31; omega)), jn_s]
  refine Ok.mono (P := fun (r : Bool × MS) => r.1 = true ∧ bSt k ((u :: us).getD 0 default) (mA r.2 53) ∧ mUnd k ((u :: us).drop 1) r.2 ∧ (∀ a, a ≠ 65 → a ≠ 66 → mI r.2 a = mI z a) ∧ r.2.2.1 = z.2.1 ∧ (∀ a, a ≠ 53 → mA r.2 a = mA z a) ∧ r.2.2.2.2 = z.2.2.2) ?_ (fun r hr => by rw [if_neg (by simp)]; exact hr)
  refine fx_okN (F := m_undo_L21 _) (z := fun _ _ => none) (fun s j y => s (nI j) y) 132 (fun j y => y.1 = z.1 ∧ y.2.1 = z.2.1 ∧ (∀ a, a ≠ 53 → mA y a = mA z a) ∧ y.2.2.2 = z.2.2.2 ∧ ∀ i, i < j → mA y 53 i = mA z 64 (132 * t + i)) _ ?_ ?_ FU 0 z (Nat.zero_le _) ⟨rfl, rfl, fun _ _ => rfl, rfl, fun i hi => absurd hi (Nat.not_lt_zero _)⟩ (FU_gt (by decide))
  · rintro s j y hj ⟨e1, e2, e3, e4, e5⟩ go
    have g66 : mI y 66 = nI t := by rw [← h66]; show y.1 66 = z.1 66; rw [e1]
    show Ok (m_undo_L21 _ s (nI j) y) _
    unfold m_undo_L21
    rw [if_neg (show ¬ (132 : Int32) ≤ nI j from nI_ge (b := 132) hj (by decide)), g66, x132, ck_t (inb_nI (by show _ < 2640; omega) (by decide)), ck_t (inb_nI (by show _ < 132; omega) (by decide)), nm_s, nI_c (by omega), nI_c (by omega), nI_1]
    refine go _ ⟨e1, e2, fun a ha => by rw [mA_wne _ ha, e3 a ha], e4, fun i hi => ?_⟩
    rw [mA_w, e3 64 (by decide)]
    by_cases c : i = j
    · rw [if_pos c, c]
    · rw [if_neg c]
      exact e5 i (by omega)
  · rintro s y ⟨e1, e2, e3, e4, e5⟩
    have g66 : mI y 66 = nI t := by rw [← h66]; show y.1 66 = z.1 66; rw [e1]
    have g65 : mI y 65 = nI (us.length + 1) := by
      have : mI y 65 = mI z 65 := by show y.1 65 = z.1 65; rw [e1]
      rw [this, h65]
      rfl
    show Ok (m_undo_L21 _ s (nI 132) y) _
    unfold m_undo_L21
    rw [if_pos (by decide)]
    show Ok (nm (wI y 66 ((((mI y 66) + 20) - 1) - (((mI y 66) + 20) - 1) / 20 * 20)) fun z2 => nm (wI z2 65 ((mI z2 65) - 1)) fun z3 => some (true, z3)) _
    rw [nm_s, nm_s, g66, ring2 t ht]
    have e65 : mI (wI y 66 (nI ((t + 19) % 20))) 65 - 1 = nI us.length := by rw [mI_w, if_neg (by decide), g65, nI_pred]
    rw [e65]
    refine Ok.of ⟨rfl, ?_, ⟨by show us.length ≤ 20; omega, by rw [mI_w, if_pos rfl]; rfl, (t + 19) % 20, Nat.mod_lt _ (by decide), by rw [mI_w, if_neg (by decide), mI_w, if_pos rfl], fun i hi => ?_⟩, fun a h1 h2 => ?_, e2, e3, e4⟩
    · refine bSt_congr h8 (hb 0 (by show 0 < us.length + 1; omega)) (fun j hj => ?_)
      show mA y 53 j = mA z 64 (132 * ((t + 20 - 0) % 20) + j)
      rw [show (t + 20 - 0) % 20 = t by omega]
      exact e5 j hj
    · have hi : i < us.length := hi
      refine bSt_congr h8 (hb (i + 1) (by show i + 1 < us.length + 1; omega)) (fun j hj => ?_)
      show mA y 64 (132 * (((t + 19) % 20 + 20 - i) % 20) + j) = mA z 64 (132 * ((t + 20 - (i + 1)) % 20) + j)
      rw [e3 64 (by decide), show ((t + 19) % 20 + 20 - i) % 20 = (t + 20 - (i + 1)) % 20 by omega]
    · rw [mI_w, if_neg h1, mI_w, if_neg h2]
      show y.1 a = z.1 a
      rw [e1]
