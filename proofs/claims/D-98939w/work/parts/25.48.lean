/-! PART 48: plain: a year of the Model: all are taught -/
set_option maxRecDepth 100000
theorem wR_make (w : SW) (p f v q : Nat) : wR (sMake w p f v) q = if q = p then (if v = 1 then wR w p &&& (255 - 2 ^ f) ||| 2 ^ f else wR w p &&& (255 - 2 ^ f)) else wR w q := by
  by_cases g : q = p <;> simp [g, sMake, uW, uR, wR, va_up]
theorem wW_make (w : SW) (p f v q : Nat) : wW (sMake w p f v) q = if q = p then (if v = 2 then wW w p &&& (255 - 2 ^ f) ||| 2 ^ f else wW w p &&& (255 - 2 ^ f)) else wW w q := by
  by_cases g : q = p <;> simp [g, sMake, uW, uR, wW, va_up]
theorem s_mk : ∀ n, n < 9 → ∀ s, s < 2 ^ n → ∀ f, f < n → s &&& (255 - 2 ^ f) < 2 ^ n ∧ (s &&& (255 - 2 ^ f)) ||| 2 ^ f < 2 ^ n := by decide +kernel
theorem wOk.make {k : SK} {w : SW} (hk : kOk k) (h : wOk k w) {p f v : Nat} (hp : p < kP k) (hf : f < kF k) (hv : v = 1 ∨ v = 2) : wOk k (sMake w p f v) := by
  have h8 := hk.1
  refine ⟨h.1, h.2.1, fun q hq => ?_⟩
  obtain ⟨b1, b2, b3, b4, b5, b6⟩ := h.2.2 q hq
  have r8 : wR w p < 256 := Nat.lt_of_lt_of_le (h.2.2 p hp).2.1 (two8 hk.1)
  have w8 : wW w p < 256 := Nat.lt_of_lt_of_le (h.2.2 p hp).2.2.1 (two8 hk.1)
  have m1 := s_mk (kF k) (by omega) (wR w p) (h.2.2 p hp).2.1 f hf
  have m2 := s_mk (kF k) (by omega) (wW w p) (h.2.2 p hp).2.2.1 f hf
  refine ⟨b1, ?_, ?_, fun g hg => ?_, b5, b6⟩
  · rw [wR_make]
    by_cases c : q = p
    · rw [if_pos c]
      rcases hv with rfl | rfl
      · exact m1.2
      · exact m1.1
    · rw [if_neg c]
      exact b2
  · rw [wW_make]
    by_cases c : q = p
    · rw [if_pos c]
      rcases hv with rfl | rfl
      · exact m2.1
      · exact m2.2
    · rw [if_neg c]
      exact b3
  · rw [wR_make, wW_make]
    by_cases c : q = p
    · subst c
      rw [if_pos rfl, if_pos rfl]
      have b4 := b4 g hg
      rcases hv with rfl | rfl
      · rw [if_pos rfl, if_neg (by decide), s_ort _ (s_clrlt _ r8 f (by omega)) f (by omega) g hg, s_clrt _ r8 f (by omega) g hg, s_clrt _ w8 f (by omega) g hg]
        by_cases e : f = g <;> simp [e]
        intro x
        simpa [x] using b4
      · rw [if_neg (by decide), if_pos rfl, s_ort _ (s_clrlt _ w8 f (by omega)) f (by omega) g hg, s_clrt _ r8 f (by omega) g hg, s_clrt _ w8 f (by omega) g hg]
        by_cases e : f = g <;> simp [e]
        intro x
        simpa [x] using b4
    · rw [if_neg c, if_neg c]
      exact b4 g hg
theorem mSame.scr (z : MS) {a : Nat} (ha : a = 56 ∨ a = 57) (i : Nat) (v : Int32) : mSame z (wA z a i v) := ⟨fun _ _ _ _ => rfl, rfl, fun b h1 h2 h3 => mA_wne z (by omega) i v, fun _ _ => rfl, fun j hj => by rw [mA_wne z (by omega)]⟩
theorem mSame.mok {k : SK} {w w' : SW} {z z' : MS} (h : mSame z z') (g : mOk k w z) (h1 : wOk k w') (h2 : mSW k w' z') : mOk k w' z' := ⟨g.1, h1, h.sk g.2.2.1, h2⟩
theorem sw_scr {k : SK} {w : SW} {z : MS} (h : mSW k w z) {a : Nat} (ha : a ≠ 53) (i : Nat) (v : Int32) : mSW k w (wA z a i v) := by
  unfold mSW
  rw [mA_wne z (Ne.symm ha)]
  exact h
theorem sLrn_12 (k : SK) (w : SW) (p f : Nat) : sLrn k w p f = 1 ∨ sLrn k w p f = 2 := by
  unfold sLrn
  split
  · exact Or.inr rfl
  · exact Or.inl rfl
theorem sTau_ok {k : SK} {w : SW} (hk : kOk k) (h : wOk k w) (ill : Nat) : ∀ n, n ≤ kP k → wOk k (itN (sTauS k w ill) n 0 w) := by
  intro n hn
  refine itN_inv (Inv := fun _ v => wOk k v) (m := kP k) (fun j v hj hv => ?_) n 0 w (by omega) h
  unfold sTauS
  by_cases c : sLes k w ill j = 0
  · rw [if_pos c]; exact hv
  · rw [if_neg c]
    have := sLes_le k w ill j
    exact wOk.make hk hv hj (by omega) (sLrn_12 k w j _)
theorem m_allTaught_v {k : SK} {w : SW} {z : MS} (h : mOk k w z) {ill : Nat} (hi : ill < 256) : ∃ z', m_allTaught (nI ill) z = some z' ∧ mSW k (sTau k w ill) z' ∧ mSame z z' := by
  have h8 := h.1.2.1
  have hF := h.1.1
  have k8 : ∀ p, p < kP k → p < 8 := fun p hp => by omega
  have ips : ∀ a, a = 56 ∨ a = 57 → ∀ p, p < kP k → inb (nI p) (mN a) = true := fun a ha p hp => inb_nI (by rcases ha with rfl | rfl <;> (show _ < 8; omega)) (by rcases ha with rfl | rfl <;> decide)
  let T : Nat → MS → Prop := fun n x => ∀ q, q < n → mA x 56 q = nI (sLes k w ill q) - 1 ∧ (sLes k w ill q ≠ 0 → mA x 57 q = nI (sLrn k w q (sLes k w ill q - 1)))
  unfold m_allTaught
  rw [jn_s]
  refine fx_okN (F := m_allTaught_L2 (nI ill) _) (z := fun _ _ => none) (fun s j x => s (nI j) x) (kP k) (fun j x => mSame z x ∧ mSW k w x ∧ T j x) _ ?_ ?_ FU 0 z (Nat.zero_le _) ⟨mSame.rf z, h.2.2.2, fun q hq => absurd hq (Nat.not_lt_zero _)⟩ (FU_gt (by omega))
  · rintro s j x hj ⟨hs, hw, hT⟩ go
    have hx := hs.mok h h.2.1 hw
    have n1 : (nI j).toNatClampNeg = j := nI_c (by omega)
    have lj := sLes_le k w ill j
    -- behind the lesson's choice
    have fin : ∀ x', mEv x x' → Ok (nm (wA x' 56 j (nI (sLes k w ill j) - 1)) fun z9 =>
      if nI (sLes k w ill j) - 1 = (-1) then s (nI j + 1) z9
      else bnd (m_isOf (nI j) (nI (sLes k w ill j) - 1) z9) fun r3 z11 =>
        if r3 = 0 then
          bnd (m_masterOf (nI j) z11) fun r4 z16 =>
          bnd (m_isOf r4 (nI (sLes k w ill j) - 1) z16) fun r5 z17 =>
          if r5 = 2 then (if bI true = 0 then nm (wA z17 57 j 1) fun z14 => s (nI j + 1) z14 else nm (wA z17 57 j 2) fun z14 => s (nI j + 1) z14)
          else
            if (mA z17 47 (Int32.toNatClampNeg 4)) = (-1) then (if bI false = 0 then nm (wA z17 57 j 1) fun z14 => s (nI j + 1) z14 else nm (wA z17 57 j 2) fun z14 => s (nI j + 1) z14)
            else bnd (m_holds 1 (nI j) (nI (sLes k w ill j) - 1) z17) fun r6 z19 =>
              if (bI r6) = 0 then (if bI false = 0 then nm (wA z19 57 j 1) fun z14 => s (nI j + 1) z14 else nm (wA z19 57 j 2) fun z14 => s (nI j + 1) z14)
              else (if bI true = 0 then nm (wA z19 57 j 1) fun z14 => s (nI j + 1) z14 else nm (wA z19 57 j 2) fun z14 => s (nI j + 1) z14)
        else (if bI false = 0 then nm (wA z11 57 j 1) fun z14 => s (nI j + 1) z14 else nm (wA z11 57 j 2) fun z14 => s (nI j + 1) z14)) (fun z' => mSW k (sTau k w ill) z' ∧ mSame z z') := by
      intro x' he
      rw [nm_s]
      have s9 : mSame x (wA x' 56 j (nI (sLes k w ill j) - 1)) := he.same.tr (mSame.scr x' (Or.inl rfl) j _)
      have w9 : mSW k w (wA x' 56 j (nI (sLes k w ill j) - 1)) := sw_scr (he.sw hw) (by decide) _ _
      have x9 := s9.mok hx h.2.1 w9
      have T9 : ∀ y, mEv (wA x' 56 j (nI (sLes k w ill j) - 1)) y → ∀ q, q < j + 1 → mA y 56 q = nI (sLes k w ill q) - 1 := by
        intro y hy q hq
        rw [hy.arr, mA_w]
        by_cases c : q = j
        · rw [if_pos c, c]
        · rw [if_neg c, he.arr]
          exact (hT q (by omega)).1
      have U9 : ∀ y, mEv (wA x' 56 j (nI (sLes k w ill j) - 1)) y → mA y 57 = mA x 57 := fun y hy => by rw [hy.arr, mA_wne _ (by decide), he.arr]
      generalize wA x' 56 j (nI (sLes k w ill j) - 1) = z9 at s9 w9 x9 T9 U9 ⊢
      by_cases c : sLes k w ill j = 0
      · rw [if_pos (by rw [c]; decide), nI_1]
        refine go z9 ⟨hs.tr s9, w9, fun q hq => ⟨T9 z9 (mEv.rf z9) q hq, fun hne => ?_⟩⟩
        rw [U9 z9 (mEv.rf z9)]
        have : q ≠ j := fun e => hne (by rw [e]; exact c)
        exact (hT q (by omega)).2 hne
      · have hmj := sLes_m c
        have hmk := (h.2.1.2.2 j hj).1
        have put : ∀ y v, mEv z9 y → v = sLrn k w j (sLes k w ill j - 1) → Ok (s (nI j + 1) (wA y 57 j (nI v))) (fun z' => mSW k (sTau k w ill) z' ∧ mSame z z') := by
          intro y v hy hv
          rw [nI_1]
          refine go _ ⟨hs.tr (s9.tr (hy.same.tr (mSame.scr y (Or.inr rfl) j _))), sw_scr (hy.sw w9) (by decide) _ _, fun q hq => ⟨?_, fun hne => ?_⟩⟩
          · rw [mA_wne _ (by decide)]
            exact T9 y hy q hq
          · rw [mA_w]
            by_cases e : q = j
            · rw [if_pos e, hv, e]
            · rw [if_neg e, U9 y hy]
              exact (hT q (by omega)).2 hne
        rw [if_neg (m1_ne c (by omega)), nI_m1 (by omega), m_isOf_v x9 hj (by omega), bnd_s]
        by_cases c1 : sIs w j (sLes k w ill j - 1) = 0
        · rw [if_pos (by rw [c1]; rfl), m_masterOf_v x9 hj, bnd_s, nI_m1 (show 0 < wM w j by omega), m_isOf_v x9 (by omega) (by omega), bnd_s]
          by_cases c2 : sIs w (wM w j - 1) (sLes k w ill j - 1) = 2
          · rw [if_pos (by rw [c2]; rfl), if_neg (by decide), nm_s]
            exact put z9 2 (mEv.rf z9) (by unfold sLrn; rw [if_pos ⟨c1, Or.inl c2⟩])
          · have l3 := sIs_lt w (wM w j - 1) (sLes k w ill j - 1)
            rw [if_neg (fun (q : nI (sIs w (wM w j - 1) (sLes k w ill j - 1)) = 2) => c2 ((nI_eq (b := 2) (by omega) (by decide)).mp q)), show (Int32.toNatClampNeg 4) = 3 + 1 from by decide]
            rcases x9.codes (i := 1) (by decide) with ⟨q1, q2⟩ | ⟨q1, c', b', q2, -⟩
            · rw [if_pos q1, if_pos (by decide), nm_s]
              refine put z9 1 (mEv.rf z9) ?_
              unfold sLrn
              rw [if_neg]
              rintro ⟨-, q | ⟨q, -⟩⟩
              · exact c2 q
              · exact q q2
            · rw [if_neg q1]
              obtain ⟨y, g1, g2⟩ := m_holds_v x9 (i := 1) (f := sLes k w ill j - 1) (by decide) q1 hj (by omega) (fun _ => ⟨by omega, by omega⟩)
              have g1 : m_holds 1 (nI j) (nI (sLes k w ill j - 1)) z9 = some (sHo k w 1 j (sLes k w ill j - 1), y) := g1
              rw [g1, bnd_s]
              cases hh : sHo k w 1 j (sLes k w ill j - 1) with
              | false =>
                rw [if_pos (by decide), if_pos (by decide), nm_s]
                refine put y 1 g2 ?_
                unfold sLrn
                rw [if_neg]
                rintro ⟨-, q | ⟨-, q⟩⟩
                · exact c2 q
                · rw [hh] at q; cases q
              | true =>
                rw [if_neg (by decide), if_neg (by decide), nm_s]
                refine put y 2 g2 ?_
                unfold sLrn
                rw [if_pos ⟨c1, Or.inr ⟨by rw [q2]; simp, hh⟩⟩]
        · have l3 := sIs_lt w j (sLes k w ill j - 1)
          rw [if_neg (nI_ne0 (by omega) (by omega)), if_pos (by decide), nm_s]
          refine put z9 1 (mEv.rf z9) ?_
          unfold sLrn
          rw [if_neg (fun q => c1 q.1)]
    show Ok (m_allTaught_L2 (nI ill) _ s (nI j) x) _
    unfold m_allTaught_L2
    rw [m_personMany_v hx, bnd_s, if_neg (nI_ge hj (by omega))]
    simp only [jn_s, ck_t (ips 56 (Or.inl rfl) j hj), ck_t (ips 57 (Or.inr rfl) j hj), n1]
    by_cases c : ill.testBit j = true
    · rw [if_pos ((s_has _ hi j (k8 j hj)).mpr c)]
      have := fin x (mEv.rf x)
      have e0 : sLes k w ill j = 0 := by unfold sLes; rw [if_pos c]
      rw [e0, show nI 0 - 1 = -1 by decide] at this
      exact this
    · rw [if_neg (fun q => c ((s_has _ hi j (k8 j hj)).mp q))]
      obtain ⟨x', g1, g2⟩ := m_taughtNext_v hx hj
      rw [g1, bnd_s]
      have := fin x' g2
      have e0 : sLes k w ill j = sNext k w j := by unfold sLes; rw [if_neg c]
      rw [e0] at this
      exact this
  · rintro s x ⟨hs, hw, hT⟩
    have hx := hs.mok h h.2.1 hw
    show Ok (m_allTaught_L2 (nI ill) _ s (nI (kP k)) x) _
    unfold m_allTaught_L2
    rw [m_personMany_v hx, bnd_s, if_pos (nI_le (Nat.le_refl _) (by omega))]
    refine fx_okN (F := m_allTaught_L118) (z := fun _ _ => none) (fun s j y => s (nI j) y) (kP k) (fun j y => mNow x y ∧ mSW k (itN (sTauS k w ill) j 0 w) y) _ ?_ ?_ FU 0 x (Nat.zero_le _) ⟨mNow.rf x, hw⟩ (FU_gt (by omega))
    · rintro s j y hj ⟨hn, hv⟩ go
      have hy := hn.same.mok hx (sTau_ok h.1 h.2.1 ill j (by omega)) hv
      have n1 : (nI j).toNatClampNeg = j := nI_c (by omega)
      have lj := sLes_le k w ill j
      obtain ⟨t1, t2⟩ := hT j hj
      have u1 : mA y 56 j = nI (sLes k w ill j) - 1 := by rw [hn.2.2.1 56 (by decide), t1]
      show Ok (m_allTaught_L118 s (nI j) y) _
      unfold m_allTaught_L118
      rw [m_personMany_v hy, bnd_s, if_neg (nI_ge hj (by omega))]
      simp only [jn_s, ck_t (ips 56 (Or.inl rfl) j hj), ck_t (ips 57 (Or.inr rfl) j hj), n1, u1, nI_1]
      have es : itN (sTauS k w ill) (j + 1) 0 w = sTauS k w ill j (itN (sTauS k w ill) j 0 w) := by rw [itN_last, Nat.zero_add]
      by_cases c : sLes k w ill j = 0
      · rw [c, if_pos (by decide)]
        refine go y ⟨hn, ?_⟩
        rw [es]
        unfold sTauS
        rw [if_pos c]
        exact hv
      · rw [if_neg (m1_ne c (by omega)), nI_m1 (by omega), hn.2.2.1 57 (by decide), t2 c]
        obtain ⟨y', g1, g2, g3⟩ := m_makes_v hy (f := sLes k w ill j - 1) hj (by omega) (sLrn_12 k w j (sLes k w ill j - 1))
        rw [g1, bnv_s]
        refine go y' ⟨hn.tr g3, ?_⟩
        rw [es]
        unfold sTauS
        rw [if_neg c]
        exact g2
    · rintro s y ⟨hn, hv⟩
      have hy := hn.same.mok hx (sTau_ok h.1 h.2.1 ill _ (Nat.le_refl _)) hv
      show Ok (m_allTaught_L118 s (nI (kP k)) y) _
      unfold m_allTaught_L118
      rw [m_personMany_v hy, bnd_s, if_pos (nI_le (Nat.le_refl _) (by omega))]
      exact Ok.of ⟨hv, hs.tr hn.same⟩
