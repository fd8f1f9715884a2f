/-! PART 32: plain: the Model's school -/
set_option maxRecDepth 100000
def newG (g : SG) (s : ST) : SG := (tK s, tNm s, stW s, [], [], (0, gB g), gR g, (0, -1), gS g, gO g)
def spSchool (g : SG) : Int32 × SG := match rSch (gT g) (gB g) 82 st0 0 0 with
  | .inl f => (-1, uFt (uRf (uT g 0 (gB g)) 1) (nI f.1, nI f.2))
  | .inr ((s, c), _) => (nI c, newG g s)
theorem mG.told {g : SG} {z zf : MS} (h : mG g z) {R : Nat → Int32} {ft : Int32 × Int32} (hi : ∀ a, a = 58 ∨ a = 60 ∨ a = 65 ∨ a = 66 ∨ a = 104 → mI zf a = mI z a) (h1 : mI zf 1 = 0)
    (ha : ∀ a i, frA a i = true → a ≠ 9 → mA zf a i = mA z a i) (hb : ∀ i, 16 ≤ i → mB zf 40 i = mB z 40 i) (hl : mL zf 67 = mL z 67) (hr : ∀ i, i < 6 → mA zf 9 i = R i) (hf : mI zf 7 = ft.1 ∧ mI zf 8 = ft.2) :
    mG (gK g, gN g, gW g, gU g, gH g, (0, gB g), R, ft, gS g, gO g) zf := by
  obtain ⟨⟨k1, k2, k3, k4, k5, k6, k7, k8⟩, ⟨m1, m2, m3, m4⟩, m5, m6, m7, m8, m9, m10, m11, m12, m13, m14⟩ := h
  have fa : ∀ a, (∀ i, frA a i = true) → a ≠ 9 → mA zf a = mA z a := fun a h1 h2 => funext fun i => ha a i (h1 i) h2
  have e53 := fa 53 (fun i => rfl) (by decide)
  have e61 := fa 61 (fun i => rfl) (by decide)
  have e64 := fa 64 (fun i => rfl) (by decide)
  have e103 := fa 103 (fun i => rfl) (by decide)
  refine ⟨⟨k1, k2, k3, by show 0 ≤ 1600; omega, fun i hi => absurd hi (Nat.not_lt_zero _), k6, k7, k8⟩, ⟨m1, m2, ?_, ?_⟩, ?_, ?_, ?_, ?_, ?_, ?_, hr, hf, ?_, ?_⟩
  · obtain ⟨q1, q2, q3, q4, q5, q6⟩ := m3
    refine ⟨?_, ?_, fun f hf => ?_, fun f hf => ?_, fun f hf => ?_, fun i hi => ?_⟩
    · rw [ha 39 2 rfl (by decide)]; exact q1
    · rw [ha 39 3 rfl (by decide)]; exact q2
    · rw [ha 41 (8 + f) (by show decide (8 ≤ 8 + f) = true; exact decide_eq_true (by omega)) (by decide)]; exact q3 f hf
    · rw [ha 42 (8 + f) (by show decide (8 ≤ 8 + f) = true; exact decide_eq_true (by omega)) (by decide)]; exact q4 f hf
    · rw [ha 46 (3 + f) (by show decide (3 ≤ 3 + f) = true; exact decide_eq_true (by omega)) (by decide)]; exact q5 f hf
    · rw [ha 47 (3 + i) (by show decide (3 ≤ 3 + i) = true; exact decide_eq_true (by omega)) (by decide), ha 48 (3 + i) (by show decide (3 ≤ 3 + i) = true; exact decide_eq_true (by omega)) (by decide)]
      rcases q6 i hi with g | ⟨c, o, g1, g2, g3, g4, g5⟩
      · exact Or.inl g
      · exact Or.inr ⟨c, o, g1, g2, g3, g4, fun j hj => by rw [ha 49 (1600 + o + j) (by show decide (1600 ≤ 1600 + o + j) = true; exact decide_eq_true (by omega)) (by decide)]; exact g5 j hj⟩
  · unfold mSW
    rw [e53]
    exact m4
  · unfold mRow
    rw [e53]
    exact m5
  · rw [hi 58 (by decide)]; exact m6
  · intro kd i hk hik
    rw [hb (16 + 8 * kd + i) (by omega)]
    exact m7 kd i hk hik
  · unfold mUnd
    rw [hi 65 (by decide), hi 66 (by decide), e64]
    exact m8
  · unfold mHr
    rw [hi 60 (by decide), e61]
    exact m9
  · exact ⟨h1, fun i hi => absurd hi (Nat.not_lt_zero _)⟩
  · rw [hl]
    exact m13
  · unfold mOc
    rw [hi 104 (by decide), e103]
    exact m14
theorem m_school_v {g : SG} {z : MS} (h : mG g z) : Ok (m_school z) (fun r => r.1 = (spSchool g).1 ∧ mG (spSchool g).2 r.2) := by
  have hT := h.1.2.2.2.1
  have hB := h.1.2.2.2.2.1
  obtain ⟨t1, t2⟩ := h.2.2.2.2.2.2.2.1
  unfold m_school
  simp only [nm_s, jn_s, t1, show (0 : Int32).toNatClampNeg = 0 from by decide, show (1 : Int32).toNatClampNeg = 1 from by decide, show (2 : Int32).toNatClampNeg = 2 from by decide]
  -- the beginning
  have H : ∃ z10, wA (wA (wI (wI (wI (wI (wI (wI (wI (wI z 3 (nI (gT g))) 1 0) 2 0) 4 (-1)) 5 0) 6 (-1)) 51 0) 50 0) 39 0 0) 39 1 0 = z10 ∧ (mI z10 3 = nI (gT g) ∧ mI z10 1 = 0 ∧ mI z10 2 = 0 ∧ mI z10 4 = -1 ∧ mI z10 5 = 0 ∧ mI z10 6 = -1 ∧ mI z10 51 = 0 ∧ mI z10 50 = 0) ∧ (∀ a, a ≠ 3 → a ≠ 1 → a ≠ 2 → a ≠ 4 → a ≠ 5 → a ≠ 6 → a ≠ 51 → a ≠ 50 → mI z10 a = mI z a) ∧ (mA z10 39 0 = 0 ∧ mA z10 39 1 = 0) ∧ (∀ a i, (a ≠ 39 ∨ 2 ≤ i) → mA z10 a i = mA z a i) ∧ z10.2.1 = z.2.1 ∧ z10.2.2.2 = z.2.2.2 := by
    refine ⟨_, rfl, ⟨?_, ?_, ?_, ?_, ?_, ?_, ?_, ?_⟩, ?_, ⟨?_, ?_⟩, ?_, rfl, rfl⟩
    · simp [mI_wA, mI_w]
    · simp [mI_wA, mI_w]
    · simp [mI_wA, mI_w]
    · simp [mI_wA, mI_w]
    · simp [mI_wA, mI_w]
    · simp [mI_wA, mI_w]
    · simp [mI_wA, mI_w]
    · simp [mI_wA, mI_w]
    · intro a h1 h2 h3 h4 h5 h6 h7 h8
      simp [mI_wA, mI_w, h1, h2, h3, h4, h5, h6, h7, h8]
    · rw [mA_g, if_neg (by omega), mA_g, if_pos ⟨rfl, rfl⟩]
    · rw [mA_g, if_pos ⟨rfl, rfl⟩]
    · intro a i ha
      rw [mA_g, if_neg (by omega), mA_g, if_neg (by omega)]
      rfl
  obtain ⟨z10, E10, ⟨i3, i1, i2, i4, i5, i6, i51, i50⟩, I10, ⟨a0, a1⟩, A10, L10, B10⟩ := H
  rw [E10]
  clear E10
  -- nobody believes, nobody is taught
  refine fx_okN (F := m_school_L59 _) (z := fun _ _ => none) (fun f k (x : MS) => f (nI k) x) 8 (fun k x => (x.1 = z10.1 ∧ x.2.1 = z10.2.1 ∧ (∀ a, a ≠ 43 → a ≠ 44 → a ≠ 45 → mA x a = mA z10 a) ∧ x.2.2.2 = z10.2.2.2) ∧ ∀ i, i < k → mA x 43 i = 0 ∧ mA x 44 i = 0 ∧ mA x 45 i = -1) _ ?_ ?_ FU 0 z10 (Nat.zero_le _) ⟨⟨rfl, rfl, fun _ _ _ _ => rfl, rfl⟩, fun i hi => absurd hi (Nat.not_lt_zero _)⟩ (FU_gt (by decide))
  · rintro f k x hk ⟨⟨j1, j2, j3, j4⟩, c⟩ go
    show Ok (m_school_L59 _ f (nI k) x) _
    unfold m_school_L59
    rw [if_neg (show ¬ (8 : Int32) ≤ nI k from nI_ge (b := 8) hk (by decide)), ck_t (inb_nI (by show _ < 8; omega) (by decide)), nm_s, ck_t (inb_nI (by show _ < 8; omega) (by decide)), nm_s, ck_t (inb_nI (by show _ < 8; omega) (by decide)), nm_s, nI_1, nI_c (show k < 2 ^ 31 by omega)]
    refine go _ ⟨⟨j1, j2, fun a h1 h2 h3 => by rw [mA_wne _ h3, mA_wne _ h2, mA_wne _ h1]; exact j3 a h1 h2 h3, j4⟩, fun i hi => ?_⟩
    by_cases e : i = k
    · subst e
      refine ⟨?_, ?_, ?_⟩
      · rw [mA_g, if_neg (by omega), mA_g, if_neg (by omega), mA_g, if_pos ⟨rfl, rfl⟩]
      · rw [mA_g, if_neg (by omega), mA_g, if_pos ⟨rfl, rfl⟩]
      · rw [mA_g, if_pos ⟨rfl, rfl⟩]
    · obtain ⟨d1, d2, d3⟩ := c i (by omega)
      refine ⟨?_, ?_, ?_⟩
      · rw [mA_g, if_neg (by omega), mA_g, if_neg (by omega), mA_g, if_neg (by omega)]; exact d1
      · rw [mA_g, if_neg (by omega), mA_g, if_neg (by omega), mA_g, if_neg (by omega)]; exact d2
      · rw [mA_g, if_neg (by omega), mA_g, if_neg (by omega), mA_g, if_neg (by omega)]; exact d3
  rintro f x1 ⟨⟨j1, j2, j3, j4⟩, c1⟩
  show Ok (m_school_L59 _ f (nI 8) x1) _
  unfold m_school_L59
  rw [if_pos (by decide)]
  dsimp only
  -- no tests
  refine fx_okN (F := m_school_L94 _) (z := fun _ _ => none) (fun f k (x : MS) => f (nI k) x) 3 (fun k x => mO 47 x1 x ∧ (∀ i, 3 ≤ i → mA x 47 i = mA x1 47 i) ∧ ∀ i, i < k → mA x 47 i = -1) _ ?_ ?_ FU 0 x1 (Nat.zero_le _) ⟨mO.rf _ _, fun _ _ => rfl, fun i hi => absurd hi (Nat.not_lt_zero _)⟩ (FU_gt (by decide))
  · rintro f k x hk ⟨o, d, c⟩ go
    show Ok (m_school_L94 _ f (nI k) x) _
    unfold m_school_L94
    rw [if_neg (show ¬ (3 : Int32) ≤ nI k from nI_ge (b := 3) hk (by decide)), ck_t (inb_nI (by show _ < 6; omega) (by decide)), nm_s, nI_1, nI_c (show k < 2 ^ 31 by omega)]
    refine go _ ⟨o.w _ _, fun i hi => by rw [mA_w, if_neg (by omega)]; exact d i hi, fun i hi => ?_⟩
    rw [mA_w]
    by_cases e : i = k
    · rw [if_pos e]
    · rw [if_neg e]; exact c i (by omega)
  rintro f x2 ⟨o2, d2, c2⟩
  show Ok (m_school_L94 _ f (nI 3) x2) _
  unfold m_school_L94
  rw [if_pos (by decide)]
  dsimp only
  -- what it begins with
  have IX : ∀ a, mI x2 a = mI z10 a := fun a => by show x2.1 a = z10.1 a; rw [o2.1, j1]
  have AX : ∀ a, a ≠ 43 → a ≠ 44 → a ≠ 45 → a ≠ 47 → mA x2 a = mA z10 a := fun a h1 h2 h3 h4 => by rw [o2.2.2.1 a h4, j3 a h1 h2 h3]
  have Z : ∃ zI, wA (wA (wA x2 46 0 10) 46 1 3) 46 2 0 = zI ∧ (∀ a, mI zI a = mI z10 a) ∧ (∀ a i, a ≠ 43 → a ≠ 44 → a ≠ 45 → a ≠ 47 → a ≠ 46 → mA zI a i = mA z10 a i) ∧ (mA zI 46 0 = 10 ∧ mA zI 46 1 = 3 ∧ mA zI 46 2 = 0) ∧ (∀ i, 3 ≤ i → mA zI 46 i = mA z10 46 i) ∧ (∀ i, i < 8 → mA zI 43 i = 0 ∧ mA zI 44 i = 0 ∧ mA zI 45 i = -1) ∧ (∀ i, i < 3 → mA zI 47 i = -1) ∧ (∀ i, 3 ≤ i → mA zI 47 i = mA z10 47 i) ∧ zI.2.1 = z.2.1 ∧ zI.2.2.2 = z.2.2.2 := by
    have g : ∀ a i, a ≠ 46 → mA (wA (wA (wA x2 46 0 10) 46 1 3) 46 2 0) a i = mA x2 a i := fun a i ha => by rw [mA_g, if_neg (by omega), mA_g, if_neg (by omega), mA_g, if_neg (by omega)]
    refine ⟨_, rfl, IX, fun a i h1 h2 h3 h4 h5 => ?_, ⟨?_, ?_, ?_⟩, fun i hi => ?_, fun i hi => ?_, fun i hi => ?_, fun i hi => ?_, ?_, ?_⟩
    · rw [g a i h5, AX a h1 h2 h3 h4]
    · rw [mA_g, if_neg (by omega), mA_g, if_neg (by omega), mA_g, if_pos ⟨rfl, rfl⟩]
    · rw [mA_g, if_neg (by omega), mA_g, if_pos ⟨rfl, rfl⟩]
    · rw [mA_g, if_pos ⟨rfl, rfl⟩]
    · rw [mA_g, if_neg (by omega), mA_g, if_neg (by omega), mA_g, if_neg (by omega), AX 46 (by decide) (by decide) (by decide) (by decide)]
    · rw [g _ _ (by decide), g _ _ (by decide), g _ _ (by decide), o2.2.2.1 43 (by decide), o2.2.2.1 44 (by decide), o2.2.2.1 45 (by decide)]
      exact c1 i hi
    · rw [g _ _ (by decide)]; exact c2 i hi
    · rw [g _ _ (by decide), d2 i hi, j3 47 (by decide) (by decide) (by decide)]
    · show x2.2.1 = _
      rw [o2.2.1, j2, L10]
    · show x2.2.2.2 = _
      rw [o2.2.2.2, j4, B10]
  obtain ⟨zI, EI, II, AI, ⟨e0, e1, e2⟩, E46, E43, E47, E47', LI, BI⟩ := Z
  rw [EI]
  clear EI
  have fI : ∀ a, frI a = true → a ≠ 1 → a ≠ 3 → a ≠ 51 → mI zI a = mI z a := by
    intro a ha h1 h3 h51
    have := of_decide_eq_true ha
    rw [II a, I10 a h3 h1 (by omega) (by omega) (by omega) (by omega) h51 (by omega)]
  have fA : ∀ a i, frA a i = true → mA zI a i = mA z a i := by
    intro a i ha
    have n43 : a ≠ 43 ∧ a ≠ 44 ∧ a ≠ 45 := by
      refine ⟨?_, ?_, ?_⟩ <;> (rintro rfl; exact absurd ha (by show ¬ (false = true); decide))
    by_cases c46 : a = 46
    · subst c46
      have h3 : 3 ≤ i := of_decide_eq_true (show decide (3 ≤ i) = true from ha)
      rw [E46 i h3, A10 46 i (Or.inl (by decide))]
    · by_cases c47 : a = 47
      · subst c47
        have h3 : 3 ≤ i := of_decide_eq_true (show decide (3 ≤ i) = true from ha)
        rw [E47' i h3, A10 47 i (Or.inl (by decide))]
      · rw [AI a i n43.1 n43.2.1 n43.2.2 c47 c46]
        by_cases c39 : a = 39
        · subst c39
          have h2 : 2 ≤ i := of_decide_eq_true (show decide (2 ≤ i) = true from ha)
          exact A10 39 i (Or.inr h2)
        · exact A10 a i (Or.inl c39)
  have mAtI : mAt (gT g) (gB g) 0 zI := by
    refine ⟨⟨hT, fun i hi => ⟨hB i hi, ?_⟩, by rw [II]; exact i3⟩, by rw [II]; exact i2, Nat.zero_le _, fun a' _ ha' => ?_, by rw [II]; exact i6⟩
    · rw [fA 0 i rfl]; exact t2 i hi
    · rw [II, i4]
      constructor
      · intro e
        exact absurd e.symm (nI_nm1 (by omega))
      · rintro ⟨-, e⟩
        exact absurd e (by unfold pv; simp)
  have mStI : mSt st0 0 zI := by
    refine ⟨⟨?_, ?_, by decide, by decide, fun kd i _ hi => ?_⟩, fun f hf => absurd hf (Nat.not_lt_zero _), fun f hf => absurd hf (Nat.not_lt_zero _), fun p hp => ?_, fun i hi => ?_, fun i hi => Or.inl ⟨rfl, E47 i hi⟩, by rw [II]; exact i50⟩
    · rw [AI 39 0 (by decide) (by decide) (by decide) (by decide) (by decide)]; exact a0
    · rw [AI 39 1 (by decide) (by decide) (by decide) (by decide) (by decide)]; exact a1
    · have : kN (tK st0) kd = 0 := by
        unfold kN
        split <;> rfl
      omega
    · obtain ⟨q1, q2, q3⟩ := E43 p hp
      exact ⟨q1, q2, q3⟩
    · rcases (show i = 0 ∨ i = 1 ∨ i = 2 by omega) with rfl | rfl | rfl
      · exact e0
      · exact e1
      · exact e2
  have s51 : wI zI 51 (nI 0) = zI := by
    have : mI zI 51 = nI 0 := by rw [II]; exact i51
    rw [← this, wI_self]
  obtain ⟨z', q1, q2⟩ := sch_L (n := gT g) (b := gB g) zI (fun (z16 : MS) =>
        nm (wI z16 7 (mI z16 5)) fun z17 =>
        nm (wI z17 8 (mI z17 6)) fun z18 =>
        if (mI z18 5) = 0 then
          bnv (m_stands z18) fun z19 =>
          some ((mI z19 51), z19)
        else
          nm (wA z18 9 1 ((mA z18 9 1) + 1)) fun z20 =>
          some ((-1), z20)) (fun _ => none) 82 st0 0 0 0 zI FU rfl (by decide) st0_ok mAtI (by rw [II]; exact i5) mStI (Nat.le_refl _) (by rw [s51]; exact mSf.rf _) (FU_gt (by decide))
  simp only [nm_s] at q1
  rw [q1]
  have f7 : ∀ a, a ≠ 7 → a ≠ 8 → mI (wI (wI z' 7 (mI z' 5)) 8 (mI (wI z' 7 (mI z' 5)) 6)) a = mI z' a := fun a h1 h2 => by rw [mI_ne _ h2, mI_ne _ h1]
  unfold spSchool
  cases qs : rSch (gT g) (gB g) 82 st0 0 0 with
  | inl ft =>
    rw [qs] at q2
    obtain ⟨w1, u, w2⟩ := q2
    rw [f7 5 (by decide) (by decide), if_neg w1.ne]
    refine Ok.of ⟨rfl, ?_⟩
    have W := h.told (zf := wA (wI (wI z' 7 (mI z' 5)) 8 (mI (wI z' 7 (mI z' 5)) 6)) 9 1 (mA (wI (wI z' 7 (mI z' 5)) 8 (mI (wI z' 7 (mI z' 5)) 6)) 9 1 + 1)) (R := va_up (gR g) 1 (gR g 1 + 1)) (ft := (nI ft.1, nI ft.2)) ?_ ?_ ?_ ?_ ?_ ?_ ?_
    · exact W
    · intro a ha
      rw [mI_wA, f7 a (by omega) (by omega), w2.1 a (by rcases ha with rfl | rfl | rfl | rfl | rfl <;> rfl), mI_ne _ (by omega), fI a (by rcases ha with rfl | rfl | rfl | rfl | rfl <;> rfl) (by omega) (by omega) (by omega)]
    · rw [mI_wA, f7 1 (by decide) (by decide), w2.1 1 rfl, mI_ne _ (by decide), II]; exact i1
    · intro a i ha h9
      rw [mA_g, if_neg (fun g => h9 g.1)]
      show mA z' a i = _
      rw [w2.2.2.1 a i ha]
      exact fA a i ha
    · intro i hi
      show mB z' 40 i = _
      rw [w2.2.2.2 40 i (by show decide (16 ≤ i) = true; exact decide_eq_true hi)]
      show zI.2.2.2 40 i = _
      rw [BI]
      rfl
    · show z'.2.1 67 = z.2.1 67
      rw [w2.2.1]
      show zI.2.1 67 = _
      rw [LI]
    · intro i hi
      have old : ∀ i, i < 6 → mA z' 9 i = gR g i := fun i hi => by
        rw [w2.2.2.1 9 i rfl]
        exact (fA 9 i rfl).trans (h.2.2.2.2.2.2.2.2.1 i hi)
      rw [mA_g, vu_at]
      by_cases c : i = 1
      · rw [if_pos ⟨rfl, c⟩, if_pos c]
        show mA z' 9 1 + 1 = _
        rw [old 1 (by decide)]
      · rw [if_neg (fun g => c g.2), if_neg c]
        exact old i hi
    · constructor
      · rw [mI_wA, mI_ne _ (by decide), mI_eq]; exact w1.1
      · rw [mI_wA, mI_eq, mI_ne _ (by decide)]; exact w1.2.1
  | inr p =>
    obtain ⟨⟨s, c⟩, e⟩ := p
    rw [qs] at q2
    obtain ⟨w1, w2, hs, w4, w5, tot, w6, w7⟩ := q2
    rw [f7 5 (by decide) (by decide), if_pos w1]
    have S8 : mSt s tot (wI (wI z' 7 (mI z' 5)) 8 (mI (wI z' 7 (mI z' 5)) 6)) := w6.of (f7 50 (by decide) (by decide)) (fun _ _ => rfl) rfl
    obtain ⟨z9, y1, y2, y3, y4, y5, ⟨y6, y7⟩, y8, y9, y10⟩ := m_stands_v hs S8 w7
    rw [y1, bnv_s]
    have tr : ∀ a, frI a = true → a ≠ 1 → a ≠ 3 → a ≠ 51 → a ≠ 7 → a ≠ 8 → a ≠ 60 → a ≠ 65 → mI z9 a = mI z a := by
      intro a ha h1 h3 h51 h7 h8 h60 h65
      rw [y8 a h60 h65, f7 a h7 h8, w5.1 a ha, mI_ne _ h51, fI a ha h1 h3 h51]
    have ta : ∀ a, (a < 39 ∨ 53 < a) → (∀ i, frA a i = true) → mA z9 a = mA z a := by
      intro a h1 h2
      rw [y10 a h1]
      funext i
      show mA z' a i = _
      rw [w5.2.2.1 a i (h2 i)]
      exact fA a i (h2 i)
    refine Ok.of ⟨?_, ?_⟩
    · show mI z9 51 = nI c
      rw [y8 51 (by decide) (by decide), f7 51 (by decide) (by decide), w5.1 51 rfl, mI_eq]
    · obtain ⟨⟨k1, k2, k3, k4, k5, k6, k7, k8⟩, -, -, m6, -, ⟨-, -, tt, m8a, m8b, -⟩, -, -, m11, m12, m13, m14⟩ := h
      refine ⟨⟨by show 0 ≤ 999; omega, fun u hu => absurd hu (by show ¬ u ∈ []; simp), fun i hi => absurd hi (Nat.not_lt_zero _), by show 0 ≤ 1600; omega, fun i hi => absurd hi (Nat.not_lt_zero _), hs.2.2.1, k7, k8⟩, ⟨hs.1, hs.2.1, y2, y4⟩, ⟨by show 0 ≤ 30; omega, y5, fun i hi => absurd hi (Nat.not_lt_zero _)⟩, ?_, y3, ⟨by show 0 ≤ 20; omega, y6, tt, m8a, ?_, fun i hi => absurd hi (Nat.not_lt_zero _)⟩, ⟨by show 0 ≤ 16; omega, y7, fun i hi => absurd hi (Nat.not_lt_zero _)⟩, ⟨?_, fun i hi => absurd hi (Nat.not_lt_zero _)⟩, fun i hi => ?_, ⟨?_, ?_⟩, ?_, ?_⟩
      · rw [tr 58 rfl (by decide) (by decide) (by decide) (by decide) (by decide) (by decide) (by decide)]; exact m6
      · rw [tr 66 rfl (by decide) (by decide) (by decide) (by decide) (by decide) (by decide) (by decide)]; exact m8b
      · rw [y8 1 (by decide) (by decide), f7 1 (by decide) (by decide), w5.1 1 rfl, mI_ne _ (by decide), II]; exact i1
      · rw [ta 9 (by decide) (fun _ => rfl)]; exact m11 i hi
      · rw [y8 7 (by decide) (by decide), mI_ne _ (by decide), mI_eq]; exact w1
      · rw [y8 8 (by decide) (by decide), mI_eq, mI_ne _ (by decide)]; exact w2
      · show z9.2.1 67 = _
        rw [y9]
        show z'.2.1 67 = _
        rw [w5.2.1]
        show zI.2.1 67 = _
        rw [LI]
        exact m13
      · unfold mOc
        rw [tr 104 rfl (by decide) (by decide) (by decide) (by decide) (by decide) (by decide) (by decide), ta 103 (by decide) (fun _ => rfl)]
        exact m14
