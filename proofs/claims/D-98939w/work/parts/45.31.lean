/-! PART 31: plain: the Model's loop over statements; the school stands -/
set_option maxRecDepth 100000
section RS2
variable {n : Nat} {b : Nat → Nat}
/-- what all statements leave -/
def sPs (n : Nat) (b : Nat → Nat) (z0 : MS) (R : RS (ST × Nat)) (z' : MS) : Prop := match R with
  | .inl g => flt g z' ∧ ∃ u, mSf (wI z0 51 u) z'
  | .inr ((s, c), _) => mI z' 5 = 0 ∧ mI z' 6 = -1 ∧ stOk s ∧ c ≤ 80 ∧ mSf (wI z0 51 (nI c)) z' ∧ ∃ tot, mSt s tot z' ∧ tot ≤ 1600
theorem sch_L (z0 : MS) (k : MS → Option (Int32 × MS)) (dm : MS → Option (Int32 × MS)) : ∀ (f : Nat) (s : ST) (cnt i tot : Nat) (z : MS) (m : Nat), cnt + f = 82 → cnt ≤ 80 → stOk s → mAt n b i z → mI z 5 = 0 → mSt s tot z → tot ≤ i → mSf (wI z0 51 (nI cnt)) z → f < m →
    ∃ z', fx (m_school_L134 k) dm m z = k z' ∧ sPs n b z0 (rSch n b f s cnt i) z'
  | 0, s, cnt, i, tot, z, m, h1, h2, _, _, _, _, _, _, _ => absurd h1 (by omega)
  | f + 1, s, cnt, i, tot, z, m, h1, h2, hs, ha, h5, hS, ht, hf, hm => by
    obtain ⟨m, rfl⟩ : ∃ m', m = m' + 1 + 1 := ⟨m - 2, by omega⟩
    have hn := ha.1.1
    have hin := ha.2.2.1
    have IH := fun s' cnt' i' tot' z' q1 q2 q3 q4 q5 q6 q7 q8 => sch_L z0 k dm f s' cnt' i' tot' z' (m + 1) q1 q2 q3 q4 q5 q6 q7 q8 (by omega)
    have dead : ∀ y : MS, ¬ mI y 5 = 0 → fx (m_school_L134 k) dm (m + 1) y = k y := by
      intro y hy
      rw [fx_s]
      unfold m_school_L134
      rw [if_neg hy]
    rw [fx_s]
    generalize fx (m_school_L134 k) dm (m + 1) = S at IH dead ⊢
    unfold m_school_L134
    rw [if_pos h5, m_look_v ha, bnd_s]
    have e : rSch n b (f + 1) s cnt i = if n ≤ sSk n b i then .inr ((s, cnt), sSk n b i) else sbd (rSt1 n b s cnt (sSk n b i)) fun s' e => rSch n b f s' (cnt + 1) e := rfl
    rw [e]
    have hsk := ha.sk
    have hjj := sSk_id n b i
    have hj := sSk_ge n b i
    have r2 := mRn.int z (k := 2) (by decide) (nI (sSk n b i))
    have S1 := hS.rn r2
    have f1 := hf.tr r2.sf
    have g5 : mI (wI z 2 (nI (sSk n b i))) 5 = 0 := by rw [mI_ne _ (by decide)]; exact h5
    generalize wI z 2 (nI (sSk n b i)) = z1 at hsk S1 f1 g5
    generalize sSk n b i = j at hsk hjj hj
    by_cases c : n ≤ j
    · rw [if_pos ((rI_m1 ha.1 j).mpr c), if_pos c]
      exact ⟨z1, rfl, g5, hsk.2.2.2.2, hs, h2, f1, tot, S1, by omega⟩
    · rw [if_neg (fun g => c ((rI_m1 ha.1 j).mp g)), if_neg c]
      obtain ⟨z2, u, e1, p1, p2⟩ := m_statementTold_v hs h2 hsk hjj g5 S1 (by omega) f1
      rw [e1, bnv_s]
      cases q : rSt1 n b s cnt j with
      | inl g =>
        rw [q] at p1
        obtain ⟨p3, p4⟩ := p1
        have p4 : flt g z2 := p4
        rw [dead z2 p4.ne, sbd_l]
        exact ⟨z2, rfl, p4, u, p3⟩
      | inr p =>
        obtain ⟨s', e2⟩ := p
        rw [q] at p1
        obtain ⟨p3, p4, p5, tot', p6, p7⟩ := p1
        obtain ⟨o1, o2, o3⟩ := rSt1_ok hs q
        rw [p2 o3] at p3
        rw [sbd_r]
        exact IH s' (cnt + 1) e2 tot' z2 (by omega) (by omega) o1 p4 p5 p6 p7 p3
end RS2
/-- the same but for array a -/
def mO (a : Nat) (x y : MS) : Prop := y.1 = x.1 ∧ y.2.1 = x.2.1 ∧ (∀ c, c ≠ a → mA y c = mA x c) ∧ y.2.2.2 = x.2.2.2
theorem mO.rf (a : Nat) (x : MS) : mO a x x := ⟨rfl, rfl, fun _ _ => rfl, rfl⟩
theorem mO.w {a : Nat} {x y : MS} (h : mO a x y) (i : Nat) (v : Int32) : mO a x (wA y a i v) := ⟨h.1, h.2.1, fun c hc => by rw [mA_wne y hc]; exact h.2.2.1 c hc, h.2.2.2⟩
/-- a copy within an array: o places up -/
def mCp (a o k : Nat) (x y : MS) : Prop := ∀ i, mA y a i = if o ≤ i ∧ i < o + k then mA x a (i - o) else mA x a i
theorem mCp.rf (a o : Nat) (x : MS) : mCp a o 0 x x := fun i => by rw [if_neg (by omega)]
theorem mCp.w {a o k : Nat} {x y : MS} (h : mCp a o k x y) (hk : k < o) : mCp a o (k + 1) x (wA y a (o + k) (mA y a k)) := by
  intro i
  rw [mA_w]
  by_cases c : i = o + k
  · rw [if_pos c, h k, if_neg (by omega), if_pos (by omega), c, show o + k - o = k by omega]
  · rw [if_neg c, h i]
    by_cases c2 : o ≤ i ∧ i < o + k
    · rw [if_pos c2, if_pos (by omega)]
    · rw [if_neg c2, if_neg (by omega)]
theorem mCp.st {a o k : Nat} {x y : MS} (h : mCp a o k x y) {i : Nat} (hi : i < k) (ho : k ≤ o) : mA y a (o + i) = mA x a i ∧ mA y a i = mA x a i := by
  constructor
  · rw [h, if_pos (by omega), show o + i - o = i by omega]
  · rw [h, if_neg (by omega)]
/-- what stands then -/
def mStood (s : ST) (z z' : MS) : Prop := mSK (tK s) z' ∧ (∀ kd i, kd < 2 → i < kN (tK s) kd → mB z' 40 (16 + 8 * kd + i) = lN (nmV (tNm s kd i))) ∧ mSW (tK s) (stW s) z' ∧ mA z' 53 41 = 0 ∧ (mI z' 65 = 0 ∧ mI z' 60 = 0) ∧ (∀ a, a ≠ 60 → a ≠ 65 → mI z' a = mI z a) ∧ z'.2.1 = z.2.1 ∧ ∀ a, (a < 39 ∨ 53 < a) → mA z' a = mA z a
theorem m_stands_v {s : ST} {tot : Nat} {z : MS} (hs : stOk s) (hS : mSt s tot z) (ht : tot ≤ 1600) : ∃ z', m_stands z = some z' ∧ mStood s z z' := by
  have hF := hs.1.1
  have hP := hs.1.2.1
  suffices Ok (m_stands z) (mStood s z) from this
  unfold m_stands
  simp only [jn_s]
  -- how many
  refine fx_okN (F := m_stands_L2 _) (z := fun _ _ => none) (fun f k (x : MS) => f (nI k) x) 2 (fun k x => mO 39 z x ∧ mCp 39 2 k z x) _ ?_ ?_ FU 0 z (Nat.zero_le _) ⟨mO.rf _ _, mCp.rf _ _ _⟩ (FU_gt (by decide))
  · rintro f k x hk ⟨o, c⟩ go
    show Ok (m_stands_L2 _ f (nI k) x) _
    unfold m_stands_L2
    rw [if_neg (show ¬ (2 : Int32) ≤ nI k from nI_ge (b := 2) hk (by decide)), ck_t (inb_nI (by show _ < 4; omega) (by decide)), show (2 : Int32) + nI k = nI (2 + k) from by rw [show (2 : Int32) = nI 2 from rfl, nI_add], ck_t (inb_nI (by show _ < 4; omega) (by decide)), nm_s, nI_1, nI_c (show k < 2 ^ 31 by omega), nI_c (show 2 + k < 2 ^ 31 by omega)]
    exact go _ ⟨o.w _ _, c.w hk⟩
  rintro f x1 ⟨o1, c1⟩
  show Ok (m_stands_L2 _ f (nI 2) x1) _
  unfold m_stands_L2
  rw [if_pos (by decide)]
  -- names
  refine fx_okN (F := m_stands_L29 _) (z := fun _ _ => none) (fun f k (x : MS) => f (nI k) x) 16 (fun k x => x.1 = x1.1 ∧ x.2.1 = x1.2.1 ∧ x.2.2.1 = x1.2.2.1 ∧ ∀ i, i < 32 → mB x 40 i = if 16 ≤ i ∧ i < 16 + k then mB x1 40 (i - 16) else mB x1 40 i) _ ?_ ?_ FU 0 x1 (Nat.zero_le _) ⟨rfl, rfl, rfl, fun i _ => by rw [if_neg (by omega)]⟩ (FU_gt (by decide))
  · rintro f k x hk ⟨i1, i2, i3, c⟩ go
    show Ok (m_stands_L29 _ f (nI k) x) _
    unfold m_stands_L29
    rw [if_neg (show ¬ (16 : Int32) ≤ nI k from nI_ge (b := 16) hk (by decide)), ck_t (inb_nI (by show _ < 32; omega) (by decide)), show (16 : Int32) + nI k = nI (16 + k) from by rw [show (16 : Int32) = nI 16 from rfl, nI_add], ck_t (inb_nI (by show _ < 32; omega) (by decide)), nm_s, nI_1, nI_c (show k < 2 ^ 31 by omega), nI_c (show 16 + k < 2 ^ 31 by omega)]
    refine go _ ⟨i1, i2, i3, fun i hi => ?_⟩
    rw [mB_w]
    by_cases e : i = 16 + k
    · rw [if_pos e, c k (by omega), if_neg (by omega), if_pos (by omega), e, show 16 + k - 16 = k by omega]
    · rw [if_neg e, c i hi]
      by_cases c2 : 16 ≤ i ∧ i < 16 + k
      · rw [if_pos c2, if_pos (by omega)]
      · rw [if_neg c2, if_neg (by omega)]
  rintro f x2 ⟨i1, i2, i3, c2⟩
  show Ok (m_stands_L29 _ f (nI 16) x2) _
  unfold m_stands_L29
  rw [if_pos (by decide)]
  -- worths and calms
  refine fx_okN (F := m_stands_L58 _) (z := fun _ _ => none) (fun f k (x : MS) => f (nI k) x) 8 (fun k x => (x.1 = x2.1 ∧ x.2.1 = x2.2.1 ∧ (∀ a, a ≠ 41 → a ≠ 42 → mA x a = mA x2 a) ∧ x.2.2.2 = x2.2.2.2) ∧ mCp 41 8 k x2 x ∧ mCp 42 8 k x2 x) _ ?_ ?_ FU 0 x2 (Nat.zero_le _) ⟨⟨rfl, rfl, fun _ _ _ => rfl, rfl⟩, mCp.rf _ _ _, mCp.rf _ _ _⟩ (FU_gt (by decide))
  · rintro f k x hk ⟨⟨j1, j2, j3, j4⟩, ca, cb⟩ go
    show Ok (m_stands_L58 _ f (nI k) x) _
    unfold m_stands_L58
    rw [if_neg (show ¬ (8 : Int32) ≤ nI k from nI_ge (b := 8) hk (by decide)), ck_t (inb_nI (by show _ < 16; omega) (by decide)), show (8 : Int32) + nI k = nI (8 + k) from by rw [show (8 : Int32) = nI 8 from rfl, nI_add], ck_t (inb_nI (by show _ < 16; omega) (by decide)), nm_s, ck_t (inb_nI (by show _ < 16; omega) (by decide)), ck_t (inb_nI (by show _ < 16; omega) (by decide)), nm_s, nI_1, nI_c (show k < 2 ^ 31 by omega), nI_c (show 8 + k < 2 ^ 31 by omega), mA_wne x (show (42 : Nat) ≠ 41 by decide)]
    refine go _ ⟨⟨j1, j2, fun a h1 h2 => by rw [mA_wne _ h2, mA_wne _ h1]; exact j3 a h1 h2, j4⟩, fun i => ?_, fun i => ?_⟩
    · rw [mA_wne _ (show (41 : Nat) ≠ 42 by decide)]
      exact ca.w hk i
    · have := cb.w hk i
      rw [mA_w] at this ⊢
      rw [mA_wne _ (show (42 : Nat) ≠ 41 by decide)]
      exact this
  rintro f x3 ⟨⟨j1, j2, j3, j4⟩, ca, cb⟩
  show Ok (m_stands_L58 _ f (nI 8) x3) _
  unfold m_stands_L58
  rw [if_pos (by decide)]
  -- settings and where the codes lie
  refine fx_okN (F := m_stands_L102 _) (z := fun _ _ => none) (fun f k (x : MS) => f (nI k) x) 3 (fun k x => (x.1 = x3.1 ∧ x.2.1 = x3.2.1 ∧ (∀ a, a ≠ 46 → a ≠ 47 → a ≠ 48 → mA x a = mA x3 a) ∧ x.2.2.2 = x3.2.2.2) ∧ mCp 46 3 k x3 x ∧ mCp 47 3 k x3 x ∧ mCp 48 3 k x3 x) _ ?_ ?_ FU 0 x3 (Nat.zero_le _) ⟨⟨rfl, rfl, fun _ _ _ _ => rfl, rfl⟩, mCp.rf _ _ _, mCp.rf _ _ _, mCp.rf _ _ _⟩ (FU_gt (by decide))
  · rintro f k x hk ⟨⟨j1, j2, j3, j4⟩, ca, cb, cc⟩ go
    show Ok (m_stands_L102 _ f (nI k) x) _
    unfold m_stands_L102
    rw [if_neg (show ¬ (3 : Int32) ≤ nI k from nI_ge (b := 3) hk (by decide)), ck_t (inb_nI (by show _ < 6; omega) (by decide)), show (3 : Int32) + nI k = nI (3 + k) from by rw [show (3 : Int32) = nI 3 from rfl, nI_add], ck_t (inb_nI (by show _ < 6; omega) (by decide)), nm_s, ck_t (inb_nI (by show _ < 6; omega) (by decide)), ck_t (inb_nI (by show _ < 6; omega) (by decide)), nm_s, ck_t (inb_nI (by show _ < 6; omega) (by decide)), ck_t (inb_nI (by show _ < 6; omega) (by decide)), nm_s, nI_1, nI_c (show k < 2 ^ 31 by omega), nI_c (show 3 + k < 2 ^ 31 by omega), mA_wne x (show (47 : Nat) ≠ 46 by decide), mA_wne _ (show (48 : Nat) ≠ 47 by decide), mA_wne x (show (48 : Nat) ≠ 46 by decide)]
    refine go _ ⟨⟨j1, j2, fun a h1 h2 h3 => by rw [mA_wne _ h3, mA_wne _ h2, mA_wne _ h1]; exact j3 a h1 h2 h3, j4⟩, fun i => ?_, fun i => ?_, fun i => ?_⟩
    · rw [mA_wne _ (show (46 : Nat) ≠ 48 by decide), mA_wne _ (show (46 : Nat) ≠ 47 by decide)]
      exact ca.w hk i
    · have := cb.w hk i
      rw [mA_wne _ (show (47 : Nat) ≠ 48 by decide)]
      rw [mA_w] at this ⊢
      rw [mA_wne _ (show (47 : Nat) ≠ 46 by decide)]
      exact this
    · have := cc.w hk i
      rw [mA_w] at this ⊢
      rw [mA_wne _ (show (48 : Nat) ≠ 47 by decide), mA_wne _ (show (48 : Nat) ≠ 46 by decide)]
      exact this
  rintro f x4 ⟨⟨l1, l2, l3, l4⟩, cd, ce, cf⟩
  show Ok (m_stands_L102 _ f (nI 3) x4) _
  unfold m_stands_L102
  rw [if_pos (by decide)]
  have h50 : mI x4 50 = nI tot := by
    show x4.1 50 = _
    rw [l1, j1, i1, o1.1]
    exact hS.2.2.2.2.2.2
  -- the codes
  refine fx_okN (F := m_stands_L157 _) (z := fun _ _ => none) (fun f k (x : MS) => f (nI k) x) tot (fun k x => mO 49 x4 x ∧ mCp 49 1600 k x4 x) _ ?_ ?_ FU 0 x4 (Nat.zero_le _) ⟨mO.rf _ _, mCp.rf _ _ _⟩ (FU_gt (by omega))
  · rintro f k x hk ⟨o, c⟩ go
    show Ok (m_stands_L157 _ f (nI k) x) _
    unfold m_stands_L157
    rw [show mI x 50 = nI tot from by show x.1 50 = _; rw [o.1]; exact h50, if_neg (nI_ge hk (by omega)), ck_t (inb_nI (by show _ < 3200; omega) (by decide)), show (1600 : Int32) + nI k = nI (1600 + k) from by rw [show (1600 : Int32) = nI 1600 from rfl, nI_add], ck_t (inb_nI (by show _ < 3200; omega) (by decide)), nm_s, nI_1, nI_c (show k < 2 ^ 31 by omega), nI_c (show 1600 + k < 2 ^ 31 by omega)]
    exact go _ ⟨o.w _ _, c.w (by omega)⟩
  rintro f x5 ⟨o5, c5⟩
  show Ok (m_stands_L157 _ f (nI tot) x5) _
  unfold m_stands_L157
  rw [show mI x5 50 = nI tot from by show x5.1 50 = _; rw [o5.1]; exact h50, if_pos (nI_le (Nat.le_refl _) (by omega))]
  -- what is: cleared
  refine fx_okN (F := m_stands_L189 _) (z := fun _ _ => none) (fun f k (x : MS) => f (nI k) x) 132 (fun k x => mO 53 x5 x ∧ ∀ i, i < k → mA x 53 i = 0) _ ?_ ?_ FU 0 x5 (Nat.zero_le _) ⟨mO.rf _ _, fun i hi => absurd hi (Nat.not_lt_zero _)⟩ (FU_gt (by decide))
  · rintro f k x hk ⟨o, c⟩ go
    show Ok (m_stands_L189 _ f (nI k) x) _
    unfold m_stands_L189
    rw [if_neg (show ¬ (132 : Int32) ≤ nI k from nI_ge (b := 132) hk (by decide)), ck_t (inb_nI (by show _ < 132; omega) (by decide)), nm_s, nI_1, nI_c (show k < 2 ^ 31 by omega)]
    refine go _ ⟨o.w _ _, fun i hi => ?_⟩
    rw [mA_w]
    by_cases e : i = k
    · rw [if_pos e]
    · rw [if_neg e]; exact c i (by omega)
  rintro f x6 ⟨o6, c6⟩
  show Ok (m_stands_L189 _ f (nI 132) x6) _
  unfold m_stands_L189
  rw [if_pos (by decide)]
  -- what x6 holds of z
  have A6 : ∀ a, a ≠ 39 → a ≠ 41 → a ≠ 42 → a ≠ 46 → a ≠ 47 → a ≠ 48 → a ≠ 49 → a ≠ 53 → mA x6 a = mA z a := by
    intro a h1 h2 h3 h4 h5 h6 h7 h8
    rw [o6.2.2.1 a h8, o5.2.2.1 a h7, l3 a h4 h5 h6, j3 a h2 h3]
    show x2.2.2.1 a = _
    rw [i3]
    exact o1.2.2.1 a h1
  have p39 : ∀ i, mA x6 39 i = if 2 ≤ i ∧ i < 2 + 2 then mA z 39 (i - 2) else mA z 39 i := by
    intro i
    rw [o6.2.2.1 39 (by decide), o5.2.2.1 39 (by decide), l3 39 (by decide) (by decide) (by decide), j3 39 (by decide) (by decide)]
    show x2.2.2.1 39 i = _
    rw [i3]
    exact c1 i
  have a1 : ∀ a, a ≠ 39 → mA x2 a = mA z a := by
    intro a ha
    show x2.2.2.1 a = _
    rw [i3]
    exact o1.2.2.1 a ha
  have p41 : ∀ i, i < 8 → mA x6 41 (8 + i) = mA z 41 i := by
    intro i hi
    rw [o6.2.2.1 41 (by decide), o5.2.2.1 41 (by decide), l3 41 (by decide) (by decide) (by decide), (ca.st hi (Nat.le_refl _)).1, a1 41 (by decide)]
  have p42 : ∀ i, i < 8 → mA x6 42 (8 + i) = mA z 42 i := by
    intro i hi
    rw [o6.2.2.1 42 (by decide), o5.2.2.1 42 (by decide), l3 42 (by decide) (by decide) (by decide), (cb.st hi (Nat.le_refl _)).1, a1 42 (by decide)]
  have q3 : ∀ a, a ≠ 39 → a ≠ 41 → a ≠ 42 → mA x3 a = mA z a := fun a h1 h2 h3 => by rw [j3 a h2 h3, a1 a h1]
  have p46 : ∀ i, i < 3 → mA x6 46 (3 + i) = mA z 46 i ∧ mA x6 46 i = mA z 46 i := by
    intro i hi
    rw [o6.2.2.1 46 (by decide), o5.2.2.1 46 (by decide), (cd.st hi (Nat.le_refl _)).1, (cd.st hi (Nat.le_refl _)).2, q3 46 (by decide) (by decide) (by decide)]
    exact ⟨rfl, rfl⟩
  have p47 : ∀ i, i < 3 → mA x6 47 (3 + i) = mA z 47 i := by
    intro i hi
    rw [o6.2.2.1 47 (by decide), o5.2.2.1 47 (by decide), (ce.st hi (Nat.le_refl _)).1, q3 47 (by decide) (by decide) (by decide)]
  have p48 : ∀ i, i < 3 → mA x6 48 (3 + i) = mA z 48 i := by
    intro i hi
    rw [o6.2.2.1 48 (by decide), o5.2.2.1 48 (by decide), (cf.st hi (Nat.le_refl _)).1, q3 48 (by decide) (by decide) (by decide)]
  have p49 : ∀ i, i < tot → mA x6 49 (1600 + i) = mA z 49 i := by
    intro i hi
    rw [o6.2.2.1 49 (by decide), (c5.st hi (by omega)).1, l3 49 (by decide) (by decide) (by decide), q3 49 (by decide) (by decide) (by decide)]
  have I6 : x6.1 = z.1 := by rw [o6.1, o5.1, l1, j1, i1, o1.1]
  have L6 : x6.2.1 = z.2.1 := by rw [o6.2.1, o5.2.1, l2, j2, i2, o1.2.1]
  have B6 : ∀ i, i < 16 → mB x6 40 (16 + i) = mB z 40 i := by
    intro i hi
    show x6.2.2.2 40 (16 + i) = _
    rw [o6.2.2.2, o5.2.2.2, l4, j4]
    show mB x2 40 (16 + i) = _
    rw [c2 (16 + i) (by omega), if_pos (by omega), show 16 + i - 16 = i by omega]
    show x1.2.2.2 40 i = _
    rw [o1.2.2.2]
    rfl
  obtain ⟨⟨s1, s2, s3, s4, s5⟩, s6, s7, s8, s9, s10, s11⟩ := hS
  -- the people
  refine fx_okN (F := m_stands_L211 _) (z := fun _ _ => none) (fun f k (x : MS) => f (nI k) x) (kP (tK s)) (fun k x => mO 53 x6 x ∧ (∀ i, (i = 0 ∨ 1 + 5 * k ≤ i) → mA x 53 i = mA x6 53 i) ∧ ∀ p, p < k → mA x 53 (1 + 5 * p) = nI (tM s p) - 1 ∧ mA x 53 (1 + 5 * p + 1) = nI (tR s p) ∧ mA x 53 (1 + 5 * p + 2) = nI (tW s p) ∧ mA x 53 (1 + 5 * p + 3) = nI (kSe (tK s) 1) ∧ mA x 53 (1 + 5 * p + 4) = 0) _ ?_ ?_ FU 0 x6 (Nat.zero_le _) ⟨mO.rf _ _, fun _ _ => rfl, fun p hp => absurd hp (Nat.not_lt_zero _)⟩ (FU_gt (by omega))
  · rintro f k x hk ⟨o, c, d⟩ go
    obtain ⟨u1, u2, u3⟩ := s8 k (by omega)
    have e39 : mA x 39 (1 : Int32).toNatClampNeg = nI (kP (tK s)) := by
      rw [o.2.2.1 39 (by decide), show (1 : Int32).toNatClampNeg = 1 from by decide, p39, if_neg (by omega)]
      exact s2
    have g43 : mA x 43 k = nI (tR s k) := by rw [o.2.2.1 43 (by decide), A6 43 (by decide) (by decide) (by decide) (by decide) (by decide) (by decide) (by decide) (by decide)]; exact u1
    have g44 : mA x 44 k = nI (tW s k) := by rw [o.2.2.1 44 (by decide), A6 44 (by decide) (by decide) (by decide) (by decide) (by decide) (by decide) (by decide) (by decide)]; exact u2
    have g45 : mA x 45 k = nI (tM s k) - 1 := by rw [o.2.2.1 45 (by decide), A6 45 (by decide) (by decide) (by decide) (by decide) (by decide) (by decide) (by decide) (by decide)]; exact u3
    have g46 : mA x 46 (1 : Int32).toNatClampNeg = nI (kSe (tK s) 1) := by rw [o.2.2.1 46 (by decide), show (1 : Int32).toNatClampNeg = 1 from by decide, (p46 1 (by decide)).2]; exact s9 1 (by decide)
    have n0 : (1 : Int32) + 5 * nI k = nI (1 + 5 * k) := by rw [show (1 : Int32) = nI 1 from rfl, show (5 : Int32) = nI 5 from rfl, nI_mul, nI_add]
    have n1 : nI (1 + 5 * k) + 1 = nI (1 + 5 * k + 1) := nI_1 _
    have n2 : nI (1 + 5 * k) + 2 = nI (1 + 5 * k + 2) := nI_add _ 2
    have n3 : nI (1 + 5 * k) + 3 = nI (1 + 5 * k + 3) := nI_add _ 3
    show Ok (m_stands_L211 _ f (nI k) x) _
    unfold m_stands_L211
    rw [e39, if_neg (nI_ge hk (by omega)), n0, n1, n2, n3, ck_t (inb_nI (by show _ < 8; omega) (by decide)), ck_t (inb_nI (by show _ < 132; omega) (by decide)), nm_s, ck_t (inb_nI (by show _ < 8; omega) (by decide)), ck_t (inb_nI (by show _ < 132; omega) (by decide)), nm_s, ck_t (inb_nI (by show _ < 8; omega) (by decide)), ck_t (inb_nI (by show _ < 132; omega) (by decide)), nm_s, ck_t (inb_nI (by show _ < 132; omega) (by decide)), nm_s, nI_c (show k < 2 ^ 31 by omega), nI_c (show 1 + 5 * k < 2 ^ 31 by omega), nI_c (show 1 + 5 * k + 1 < 2 ^ 31 by omega), nI_c (show 1 + 5 * k + 2 < 2 ^ 31 by omega), nI_c (show 1 + 5 * k + 3 < 2 ^ 31 by omega)]
    simp only [mA_wne _ (show (43 : Nat) ≠ 53 by decide), mA_wne _ (show (44 : Nat) ≠ 53 by decide), mA_wne _ (show (46 : Nat) ≠ 53 by decide), g43, g44, g45, g46]
    rw [nI_1]
    refine go _ ⟨(((o.w _ _).w _ _).w _ _).w _ _, fun i hi => ?_, fun p hp => ?_⟩
    · rw [mA_w, if_neg (by omega), mA_w, if_neg (by omega), mA_w, if_neg (by omega), mA_w, if_neg (by omega)]
      exact c i (by omega)
    · simp only [mA_w]
      by_cases e : p = k
      · subst e
        refine ⟨?_, ?_, ?_, ?_, ?_⟩
        · rw [if_neg (by omega), if_neg (by omega), if_neg (by omega), if_pos rfl]
        · rw [if_neg (by omega), if_neg (by omega), if_pos rfl]
        · rw [if_neg (by omega), if_pos rfl]
        · rw [if_pos rfl]
        · rw [if_neg (by omega), if_neg (by omega), if_neg (by omega), if_neg (by omega), c _ (by omega)]
          exact c6 _ (by omega)
      · obtain ⟨d1, d2, d3, d4, d5⟩ := d p (by omega)
        refine ⟨?_, ?_, ?_, ?_, ?_⟩
        · rw [if_neg (by omega), if_neg (by omega), if_neg (by omega), if_neg (by omega)]; exact d1
        · rw [if_neg (by omega), if_neg (by omega), if_neg (by omega), if_neg (by omega)]; exact d2
        · rw [if_neg (by omega), if_neg (by omega), if_neg (by omega), if_neg (by omega)]; exact d3
        · rw [if_neg (by omega), if_neg (by omega), if_neg (by omega), if_neg (by omega)]; exact d4
        · rw [if_neg (by omega), if_neg (by omega), if_neg (by omega), if_neg (by omega)]; exact d5
  rintro f x7 ⟨o7, c7, d7⟩
  have e39 : mA x7 39 (1 : Int32).toNatClampNeg = nI (kP (tK s)) := by
    rw [o7.2.2.1 39 (by decide), show (1 : Int32).toNatClampNeg = 1 from by decide, p39, if_neg (by omega)]
    exact s2
  show Ok (m_stands_L211 _ f (nI (kP (tK s))) x7) _
  unfold m_stands_L211
  rw [e39, if_pos (nI_le (Nat.le_refl _) (by omega))]
  dsimp only
  rw [nm_s, nm_s]
  have X7 : ∀ a, a ≠ 53 → mA (wI (wI x7 65 0) 60 0) a = mA x6 a := fun a ha => o7.2.2.1 a ha
  refine Ok.of ⟨?_, ?_, ?_, ?_, ⟨?_, mI_eq _ _ _⟩, ?_, ?_, ?_⟩
  · refine ⟨?_, ?_, fun f hf => ?_, fun p hp => ?_, fun i hi => ?_, fun i hi => ?_⟩
    · rw [X7 39 (by decide), p39, if_pos (by omega)]; exact s1
    · rw [X7 39 (by decide), p39, if_pos (by omega)]; exact s2
    · rw [X7 41 (by decide), p41 f (by omega)]; exact s6 f hf
    · rw [X7 42 (by decide), p42 p (by omega)]; exact s7 p hp
    · rw [X7 46 (by decide), (p46 i hi).1]; exact s9 i hi
    · rw [X7 47 (by decide), X7 48 (by decide), X7 49 (by decide), p47 i hi, p48 i hi]
      rcases s10 i hi with ⟨g1, g2⟩ | ⟨c, o, g1, g2, g3, g4, g5⟩
      · exact Or.inl ⟨g1, g2⟩
      · exact Or.inr ⟨c, o, g1, by omega, g3, g4, fun j hj => by rw [Nat.add_assoc, p49 _ (by omega)]; exact g5 j hj⟩
  · intro kd i hk hi
    have := kN_le hF hP kd
    show x7.2.2.2 40 _ = _
    rw [o7.2.2.2, Nat.add_assoc]
    exact (B6 (8 * kd + i) (by omega)).trans (s5 kd i hk hi).2
  · refine ⟨?_, fun p hp => ?_⟩
    · show mA x7 53 0 = nI 0
      rw [c7 0 (Or.inl rfl)]
      exact c6 0 (by decide)
    · exact d7 p hp
  · show mA x7 53 41 = 0
    rw [c7 41 (by omega)]
    exact c6 41 (by decide)
  · rw [mI_ne _ (by decide), mI_eq]
  · intro a h1 h2
    rw [mI_ne _ h1, mI_ne _ h2]
    show x7.1 a = z.1 a
    rw [o7.1, I6]
  · show x7.2.1 = z.2.1
    rw [o7.2.1, L6]
  · intro a ha
    rw [X7 a (by omega)]
    exact A6 a (by omega) (by omega) (by omega) (by omega) (by omega) (by omega) (by omega) (by omega)
