/-! PART 55: plain: the Model: gift, law -/
set_option maxRecDepth 100000
theorem m_isDoctorBehind_v {k : SK} {w v : SW} {z1 x : MS} (th : mTh k w z1) (hx : mT k z1 v x) {q n : Nat} (hq : q < kP k) (hy : wY v + n ≤ 2000) : Ok (m_isDoctorBehind (nI q) (nI n) x) (fun r => r.1 = (wF (sYears k n v) q).testBit 1 ∧ mT k z1 w r.2) := by
  unfold m_isDoctorBehind
  refine Ok.bnv _ (hx.years hy) (fun y hy' => ?_)
  rw [m_isDoctor_v hy'.ok hq, bnd_s]
  exact Ok.bnv _ (m_triesAnew_v th hy') (fun y2 hy2 => Ok.of ⟨rfl, hy2.1⟩)
/-- a gift: to whom (p + 1), of what (f + 1) -/
def sGifS (k : SK) (w : SW) (q n p f : Nat) (a : Nat × Nat) : Nat × Nat :=
  if sIs w p f = 1 ∨ (a.1 ≠ 0 ∧ kWo k (a.2 - 1) ≤ kWo k f) then a else if (wF (sYears k n (sMake w p f 1)) q).testBit 1 = true then (p + 1, f + 1) else a
def sGif (k : SK) (w : SW) (q n : Nat) : Nat × Nat := itN (fun p a => itN (sGifS k w q n p) (kF k) 0 a) (kP k) 0 (0, 0)
def gif_ok (k : SK) (a : Nat × Nat) : Prop := a.1 ≤ kP k ∧ a.2 ≤ kF k ∧ (a.1 = 0 ↔ a.2 = 0)
theorem sGifS_ok {k : SK} {w : SW} {q n p f : Nat} {a : Nat × Nat} (hp : p < kP k) (hf : f < kF k) (h : gif_ok k a) : gif_ok k (sGifS k w q n p f a) := by
  unfold sGifS
  split
  · exact h
  · split
    · exact ⟨hp, hf, by show p + 1 = 0 ↔ f + 1 = 0; omega⟩
    · exact h
theorem sGif_ok {k : SK} {w : SW} {q n : Nat} (m : Nat) (hm : m ≤ kP k) : gif_ok k (itN (fun p a => itN (sGifS k w q n p) (kF k) 0 a) m 0 (0, 0)) := by
  have := itN_inv (Inv := fun _ a => gif_ok k a) (m := kP k) (st := fun p a => itN (sGifS k w q n p) (kF k) 0 a) (fun p a hp ha => ?_) m 0 (0, 0) (by omega) ⟨Nat.zero_le _, Nat.zero_le _, Iff.rfl⟩
  · exact this
  · exact itN_inv (Inv := fun _ a => gif_ok k a) (m := kF k) (st := sGifS k w q n p) (fun f a hf ha => sGifS_ok hp hf ha) (kF k) 0 a (by omega) ha
def spGift (k : SK) (w : SW) (q n : Nat) (what : Int32) : Int32 := if (wF (sYears k n w) q).testBit 1 = true then -1 else if what = 0 then nI (sGif k w q n).1 - 1 else nI (sGif k w q n).2 - 1
theorem m_gift_v {k : SK} {w : SW} {z : MS} (h : mOk k w z) (hz : mI z 58 = bI false) (hy : wY w ≤ 999) (a n what : Int32) : Ok (m_gift a n what z) (fun r => r.1 = (if sPn (kP k) a = true ∧ sAh w n 0 20 = true ∧ sIn what 0 1 = true then spGift k w a.toNatClampNeg n.toNatClampNeg what else -1) ∧ mBk z r.2) := by
  unfold m_gift
  rw [m_isPerson_s h, bnd_s]
  cases c : sPn (kP k) a with
  | false => exact Ok.of ⟨rfl, mBk.rf z⟩
  | true =>
  have h8 := h.1.2.1
  have hF8 := h.1.1
  obtain ⟨q, hq, rfl⟩ := sPn_nat c h8
  rw [if_neg (by decide), m_isAhead_v h n 0 20 (by decide) (by decide), bnd_s, show (0 : Int32).toInt = 0 from by decide, show (20 : Int32).toInt = 20 from by decide]
  cases c1 : sAh w n 0 20 with
  | false => exact Ok.of ⟨rfl, mBk.rf z⟩
  | true =>
  obtain ⟨n, rfl, -, h20, h99⟩ := sAh_nat c1 (by decide) (by decide)
  rw [if_neg (by decide), m_isIn_i, bnd_s, show (0 : Int64).toInt = 0 from by decide, show (1 : Int64).toInt = 1 from by decide]
  cases c2 : sIn what 0 1 with
  | false => exact Ok.of ⟨rfl, mBk.rf z⟩
  | true =>
  rw [if_neg (by decide), if_pos ⟨rfl, rfl, rfl⟩, nI_c (by omega), nI_c (by omega)]
  refine Ok.bnv _ (m_putsAside_v h) (fun z1 hz1 => ?_)
  obtain ⟨th, hput⟩ := hz1
  refine Ok.bnd _ (m_isDoctorBehind_v th th.t hq (n := n) (by omega)) (fun r4 z5 hr4 => ?_)
  obtain ⟨e4, hz5⟩ := hr4
  have e4 : r4 = (wF (sYears k n w) q).testBit 1 := e4
  have hz5 : mT k z1 w z5 := hz5
  rw [jn_s]
  unfold spGift
  rw [← e4]
  -- the end
  have fin : ∀ (a : Nat × Nat) (x : MS), gif_ok k a → mT k z1 w x → (if r4 = true then a = (0, 0) else a = sGif k w q n) → Ok (bnv (m_takesBack x) fun z7 => if nI a.1 - 1 = (-1) then some ((-1), z7) else if what = 0 then some (nI a.1 - 1, z7) else some (nI a.2 - 1, z7)) (fun r => r.1 = (if r4 = true then -1 else if what = 0 then nI (sGif k w q n).1 - 1 else nI (sGif k w q n).2 - 1) ∧ mBk z r.2) := by
    intro a x hg hx hr
    obtain ⟨g1, g2, g3⟩ := hg
    refine Ok.bnv _ (m_takesBack_v hz th hput hx) (fun y hy' => ?_)
    cases r4 with
    | true =>
      rw [if_pos rfl] at hr
      rw [hr, if_pos rfl, if_pos (by decide)]
      exact Ok.of ⟨rfl, hy'⟩
    | false =>
      rw [if_neg (by decide)] at hr
      rw [if_neg (show ¬ false = true by decide), ← hr]
      by_cases c0 : a.1 = 0
      · have c02 := g3.mp c0
        rw [c0, c02, if_pos (show nI 0 - 1 = -1 by decide), ite_self]
        exact Ok.of ⟨(by show (-1 : Int32) = nI 0 - 1; decide), hy'⟩
      · rw [if_neg (m1_ne c0 (by omega))]
        by_cases cw : what = 0
        · rw [if_pos cw, if_pos cw]; exact Ok.of ⟨rfl, hy'⟩
        · rw [if_neg cw, if_neg cw]; exact Ok.of ⟨rfl, hy'⟩
  refine fx_okN (F := m_gift_L52 (nI q) (nI n) r4 _) (z := fun _ _ _ _ => none) (fun s j (b : (Nat × Nat) × MS) => s (nI b.1.1 - 1) (nI b.1.2 - 1) (nI j) b.2) (kP k) (fun j b => gif_ok k b.1 ∧ mT k z1 w b.2 ∧ (if r4 = true then b.1 = (0, 0) else b.1 = itN (fun p a => itN (sGifS k w q n p) (kF k) 0 a) j 0 (0, 0))) _ ?_ ?_ FU 0 ((0, 0), z5) (Nat.zero_le _) ⟨⟨Nat.zero_le _, Nat.zero_le _, Iff.rfl⟩, hz5, by cases r4 <;> rfl⟩ (FU_gt (by omega))
  · rintro s j ⟨a, x⟩ hj ⟨hg, hx, hr⟩ go
    have hg : gif_ok k a := hg
    have hx : mT k z1 w x := hx
    have hr : if r4 = true then a = (0, 0) else a = itN (fun p a => itN (sGifS k w q n p) (kF k) 0 a) j 0 (0, 0) := hr
    show Ok (m_gift_L52 (nI q) (nI n) r4 _ s (nI a.1 - 1) (nI a.2 - 1) (nI j) x) _
    unfold m_gift_L52
    rw [m_personMany_v hx.ok, bnd_s, if_neg (nI_ge hj (by omega))]
    cases r4 with
    | true =>
      rw [if_neg (by decide)]
      exact fin a x hg hx hr
    | false =>
      rw [if_neg (by decide)] at hr
      rw [if_pos (by decide), jn_s]
      refine fx_okN (F := m_gift_L69 (nI q) (nI n) (nI j) _) (z := fun _ _ _ _ => none) (fun s f (b : (Nat × Nat) × MS) => s (nI b.1.1 - 1) (nI b.1.2 - 1) (nI f) b.2) (kF k) (fun f b => gif_ok k b.1 ∧ mT k z1 w b.2 ∧ b.1 = itN (sGifS k w q n j) f 0 a) _ ?_ ?_ FU 0 (a, x) (Nat.zero_le _) ⟨hg, hx, rfl⟩ (FU_gt (by omega))
      · rintro s2 f ⟨b, y⟩ hf ⟨hb, hy', he⟩ go2
        have hb : gif_ok k b := hb
        have hy' : mT k z1 w y := hy'
        have he : b = itN (sGifS k w q n j) f 0 a := he
        have hS : itN (sGifS k w q n j) (f + 1) 0 a = sGifS k w q n j f b := by rw [he]; exact itN_S _ _ _
        have hb' := sGifS_ok (w := w) (q := q) (n := n) hj hf hb
        have gon : ∀ (b2 : Nat × Nat) (y2 : MS), mT k z1 w y2 → b2 = sGifS k w q n j f b → Ok (s2 (nI b2.1 - 1) (nI b2.2 - 1) (nI f + 1) y2) (fun r => r.1 = (if false = true then -1 else if what = 0 then nI (sGif k w q n).1 - 1 else nI (sGif k w q n).2 - 1) ∧ mBk z r.2) := fun b2 y2 hy2 e2 => by
          rw [nI_1]
          exact go2 (b2, y2) ⟨by rw [e2]; exact hb', hy2, by rw [hS]; exact e2⟩
        show Ok (m_gift_L69 (nI q) (nI n) (nI j) _ s2 (nI b.1 - 1) (nI b.2 - 1) (nI f) y) _
        unfold m_gift_L69
        have l1 := sIs_lt w j f
        rw [m_factMany_v hy'.ok, bnd_s, if_neg (nI_ge hf (by omega)), m_isOf_v hy'.ok hj (by omega), bnd_s]
        simp only [jn_s]
        unfold sGifS at gon
        have try1 : ¬ (sIs w j f = 1 ∨ (b.1 ≠ 0 ∧ kWo k (b.2 - 1) ≤ kWo k f)) → Ok (bnv (m_makes (nI j) (nI f) 1 y) fun z16 => bnd (m_isDoctorBehind (nI q) (nI n) z16) fun r8 z17 => if (bI r8) = 0 then s2 (nI b.1 - 1) (nI b.2 - 1) (nI f + 1) z17 else s2 (nI j) (nI f) (nI f + 1) z17) (fun r => r.1 = (if false = true then -1 else if what = 0 then nI (sGif k w q n).1 - 1 else nI (sGif k w q n).2 - 1) ∧ mBk z r.2) := by
          intro hc
          rw [if_neg hc] at gon
          obtain ⟨y2, g1, g2, g3⟩ := m_makes_v hy'.ok hj (f := f) (by omega) (v := 1) (Or.inl rfl)
          have g1 : m_makes (nI j) (nI f) 1 y = some y2 := g1
          rw [g1, bnv_s]
          have hy2 : mT k z1 (sMake w j f 1) y2 := hy'.same g3.same (wOk.make h.1 h.2.1 hj hf (Or.inl rfl)) g2
          refine Ok.bnd _ (m_isDoctorBehind_v th hy2 hq (n := n) (by show wY w + n ≤ 2000; omega)) (fun r8 y3 hr8 => ?_)
          obtain ⟨e8, hy3⟩ := hr8
          have e8 : r8 = (wF (sYears k n (sMake w j f 1)) q).testBit 1 := e8
          rw [← e8] at gon
          cases r8 with
          | false =>
            rw [if_pos (by decide)]
            exact gon b y3 hy3 (by rw [if_neg (by decide)])
          | true =>
            rw [if_neg (by decide)]
            have := gon (j + 1, f + 1) y3 hy3 (by rw [if_pos rfl])
            have this : Ok (s2 (nI (j + 1) - 1) (nI (f + 1) - 1) (nI f + 1) y3) _ := this
            rw [nI_pred, nI_pred] at this
            exact this
        by_cases ci : sIs w j f = 1
        · rw [if_pos (by rw [ci]; rfl)]
          exact gon b y hy' (by rw [if_pos (Or.inl ci)])
        · rw [if_neg (fun (e : nI (sIs w j f) = 1) => ci ((nI_eq (b := 1) (by omega) (by decide)).mp e))]
          obtain ⟨b1, b2, b3⟩ := hb
          by_cases c0 : b.1 = 0
          · rw [if_pos (by rw [c0]; decide)]
            refine try1 ?_
            rintro (e | ⟨e, -⟩)
            · exact ci e
            · exact e c0
          · have c02 : b.2 ≠ 0 := fun e => c0 (b3.mpr e)
            have w1 := (h.1.2.2.1 f hf)
            have w2 := (h.1.2.2.1 (b.2 - 1) (by omega))
            have hsk := hy'.ok.2.2.1.2.2.1
            rw [if_neg (m1_ne c0 (by omega)), nI_m1 (show 0 < b.2 by omega), show (8 : Int32) = nI 8 from rfl, ixk, ixk, ck_t (inb_nI (by show _ < 16; omega) (by decide)), ck_t (inb_nI (by show _ < 16; omega) (by decide)), nI_c (by omega), nI_c (by omega), hsk f hf, hsk (b.2 - 1) (by omega)]
            by_cases cw : kWo k (b.2 - 1) ≤ kWo k f
            · rw [if_neg (nI_nlt cw (by omega))]
              have := gon b y hy' (by rw [if_pos (Or.inr ⟨c0, cw⟩)])
              rw [nI_m1 (show 0 < b.2 by omega)] at this
              exact this
            · rw [if_pos (nI_lt (by omega) (by omega))]
              have := try1 (by rintro (e | ⟨-, e⟩); exact ci e; exact cw e)
              rw [nI_m1 (show 0 < b.2 by omega)] at this
              exact this
      · rintro s2 ⟨b, y⟩ ⟨hb, hy', he⟩
        have hb : gif_ok k b := hb
        have hy' : mT k z1 w y := hy'
        have he : b = itN (sGifS k w q n j) (kF k) 0 a := he
        show Ok (m_gift_L69 (nI q) (nI n) (nI j) _ s2 (nI b.1 - 1) (nI b.2 - 1) (nI (kF k)) y) _
        unfold m_gift_L69
        rw [m_factMany_v hy'.ok, bnd_s, if_pos (nI_le (Nat.le_refl _) (by omega)), nI_1]
        refine go (b, y) ⟨hb, hy', ?_⟩
        rw [if_neg (by decide)]
        rw [itN_S, ← hr]
        exact he
  · rintro s ⟨a, x⟩ ⟨hg, hx, hr⟩
    have hx : mT k z1 w x := hx
    show Ok (m_gift_L52 (nI q) (nI n) r4 _ s (nI a.1 - 1) (nI a.2 - 1) (nI (kP k)) x) _
    unfold m_gift_L52
    rw [m_personMany_v hx.ok, bnd_s, if_pos (nI_le (Nat.le_refl _) (by omega))]
    exact fin a x hg hx hr
/-- all who have not passed have t tries -/
def sTryS (w : SW) (t p : Nat) (v : SW) : SW := if (wF w p).testBit 0 = true then v else uL v p t
def sTry (w : SW) (t n : Nat) : SW := itN (sTryS w t) n 0 w
theorem sTry_ok {k : SK} {w : SW} (h : wOk k w) {t : Nat} (ht : t ≤ 9) (n : Nat) : wOk k (sTry w t n) ∧ wF (sTry w t n) = wF w ∧ wY (sTry w t n) = wY w := by
  have := itN_inv (Inv := fun _ v => wOk k v ∧ wF v = wF w ∧ wY v = wY w) (m := n) (st := sTryS w t) (fun j v _ hv => by
    unfold sTryS
    split
    · exact hv
    · exact ⟨hv.1.left ht, hv.2⟩) n 0 w (by omega) ⟨h, rfl, rfl⟩
  exact this
def sLawS (k : SK) (w : SW) (n t : Nat) (a : Nat × Nat) : Nat × Nat := if a.2 ≤ pop (sWho (sYears k n (sTry w t (kP k))) (kP k) 1) then (t, pop (sWho (sYears k n (sTry w t (kP k))) (kP k) 1) + 1) else a
/-- with how many tries most become doctors, and how many (+ 1) -/
def sLaw (k : SK) (w : SW) (n m : Nat) : Nat × Nat := itN (sLawS k w n) m 0 (0, 0)
theorem pop_le : ∀ s, s < 256 → pop s ≤ 8 := by decide +kernel
theorem sLaw_in {k : SK} {w : SW} (hk : kOk k) (n : Nat) : ∀ m, (sLaw k w n m).1 ≤ m ∧ (sLaw k w n m).2 ≤ 9
  | 0 => ⟨Nat.le_refl _, Nat.zero_le _⟩
  | m + 1 => by
    obtain ⟨h1, h2⟩ := sLaw_in (w := w) hk n m
    have e : sLaw k w n (m + 1) = sLawS k w n m (sLaw k w n m) := itN_S _ _ _
    rw [e]
    have hp := pop_le _ (sWho_lt (sYears k n (sTry w m (kP k))) (kP k) 1 hk.2.1)
    unfold sLawS
    split
    · exact ⟨by show m ≤ m + 1; omega, by show _ + 1 ≤ 9; omega⟩
    · exact ⟨by omega, h2⟩
def spLaw (k : SK) (w : SW) (n : Nat) (what : Int32) : Int32 := if what = 0 then nI (sLaw k w n 10).1 else nI (sLaw k w n 10).2 - 1
theorem m_law_v {k : SK} {w : SW} {z : MS} (h : mOk k w z) (hz : mI z 58 = bI false) (hy : wY w ≤ 999) (n what : Int32) : Ok (m_law n what z) (fun r => r.1 = (if sAh w n 0 20 = true ∧ sIn what 0 1 = true then spLaw k w n.toNatClampNeg what else -1) ∧ mBk z r.2) := by
  unfold m_law
  have h8 := h.1.2.1
  rw [m_isAhead_v h n 0 20 (by decide) (by decide), bnd_s, show (0 : Int32).toInt = 0 from by decide, show (20 : Int32).toInt = 20 from by decide]
  cases c1 : sAh w n 0 20 with
  | false => exact Ok.of ⟨rfl, mBk.rf z⟩
  | true =>
  obtain ⟨n, rfl, -, h20, h99⟩ := sAh_nat c1 (by decide) (by decide)
  rw [if_neg (by decide), m_isIn_i, bnd_s, show (0 : Int64).toInt = 0 from by decide, show (1 : Int64).toInt = 1 from by decide]
  cases c2 : sIn what 0 1 with
  | false => exact Ok.of ⟨rfl, mBk.rf z⟩
  | true =>
  rw [if_neg (by decide), if_pos ⟨rfl, rfl⟩, nI_c (by omega)]
  refine Ok.bnv _ (m_putsAside_v h) (fun z1 hz1 => ?_)
  obtain ⟨th, hput⟩ := hz1
  rw [jn_s]
  refine fx_okN (F := m_law_L35 (nI n) _) (z := fun _ _ _ _ => none) (fun s j (b : (Nat × Nat) × MS) => s (nI b.1.1) (nI b.1.2 - 1) (nI j) b.2) 10 (fun j b => b.1 = sLaw k w n j ∧ mT k z1 w b.2) _ ?_ ?_ FU 0 ((0, 0), z1) (Nat.zero_le _) ⟨rfl, th.t⟩ (FU_gt (by decide))
  · rintro s t ⟨a, x⟩ ht ⟨ha, hx⟩ go
    have ha : a = sLaw k w n t := ha
    have hx : mT k z1 w x := hx
    have hin := sLaw_in (w := w) h.1 n t
    rw [← ha] at hin
    have hS : sLaw k w n (t + 1) = sLawS k w n t a := by rw [ha]; exact itN_S _ _ _
    show Ok (m_law_L35 (nI n) _ s (nI a.1) (nI a.2 - 1) (nI t) x) _
    unfold m_law_L35
    rw [if_neg (show ¬ (9 : Int32) < nI t from nI_nlt (a := 9) (by omega) (by decide))]
    simp only [jn_s]
    refine fx_okN (F := m_law_L45 (nI t) _) (z := fun _ _ => none) (fun s j y => s (nI j) y) (kP k) (fun j y => mT k z1 (sTry w t j) y) _ ?_ ?_ FU 0 x (Nat.zero_le _) hx (FU_gt (by omega))
    · intro s2 j y hj hy' go2
      obtain ⟨o1, o2, o3⟩ := sTry_ok (k := k) h.2.1 (t := t) (by omega) j
      show Ok (m_law_L45 (nI t) _ s2 (nI j) y) _
      unfold m_law_L45
      rw [m_personMany_v hy'.ok, bnd_s, if_neg (nI_ge hj (by omega)), m_hasPassed_v hy'.ok hj, bnd_s, o2]
      simp only [jn_s]
      have hS2 : sTry w t (j + 1) = sTryS w t j (sTry w t j) := itN_S _ _ _
      rw [hS2] at go2
      unfold sTryS at go2
      cases cp : (wF w j).testBit 0 with
      | true =>
        rw [cp, if_pos rfl] at go2
        rw [if_neg (by decide), nI_1]
        exact go2 y hy'
      | false =>
        rw [cp, if_neg (by decide)] at go2
        rw [if_pos (by decide), ix0, show (3 : Int32) = nI 3 from rfl, ixk, ck_t (inb_nI (by show _ < 132; omega) (by decide)), nm_s, nI_c (by omega), nI_1]
        refine go2 _ (hy'.same (mNow.now y (by omega) _).same (o1.left (by omega)) ?_)
        refine mSW_set (c := 3) hy'.ok.2.2.2 (by decide) rfl (fun q _ => by simp [uL, wM]) (fun q _ => by simp [uL, wR]) (fun q _ => by simp [uL, wW]) (fun q _ => ?_) (fun q _ => by simp [uL, wF])
        rw [wL_u]
        by_cases g : q = j <;> simp [g]
    · intro s2 y hy'
      show Ok (m_law_L45 (nI t) _ s2 (nI (kP k)) y) _
      unfold m_law_L45
      rw [m_personMany_v hy'.ok, bnd_s, if_pos (nI_le (Nat.le_refl _) (by omega))]
      have o3 := (sTry_ok (k := k) h.2.1 (t := t) (by omega) (kP k)).2.2
      refine Ok.bnv _ (hy'.years (n := n) (by omega)) (fun y2 hy2 => ?_)
      have e := m_thoseWho_v hy2.ok (b := 1) (by decide)
      have e : m_thoseWho 2 y2 = _ := e
      have hlt := sWho_lt (sYears k n (sTry w t (kP k))) (kP k) 1 h8
      have hp8 := pop_le _ hlt
      rw [e, bnd_s, m_bits_v hlt, bnd_s]
      refine Ok.bnv _ (m_triesAnew_v th hy2) (fun y3 hy3 => ?_)
      have hy3 := hy3.1
      unfold sLawS at hS
      generalize pop (sWho (sYears k n (sTry w t (kP k))) (kP k) 1) = m at hS hp8 ⊢
      by_cases cm : a.2 ≤ m
      · rw [if_pos cm] at hS
        have clt : nI a.2 - 1 < nI m := by
          by_cases c0 : a.2 = 0
          · rw [c0, Int32.lt_iff_toInt_lt, nI_toInt (by omega), show (nI 0 - 1).toInt = -1 from by decide]
            omega
          · rw [nI_m1 (by omega)]
            exact nI_lt (by omega) (by omega)
        rw [if_pos clt, nI_1]
        have := go ((t, m + 1), y3) ⟨hS.symm, hy3⟩
        have this : Ok (s (nI t) (nI (m + 1) - 1) (nI (t + 1)) y3) _ := this
        rw [nI_pred] at this
        exact this
      · rw [if_neg cm] at hS
        rw [nI_m1 (by omega), if_neg (nI_nlt (by omega) (by omega)), nI_1, ← nI_m1 (show 0 < a.2 by omega)]
        exact go (a, y3) ⟨hS.symm, hy3⟩
  · rintro s ⟨a, x⟩ ⟨ha, hx⟩
    have ha : a = sLaw k w n 10 := ha
    have hx : mT k z1 w x := hx
    show Ok (m_law_L35 (nI n) _ s (nI a.1) (nI a.2 - 1) (nI 10) x) _
    unfold m_law_L35
    rw [if_pos (by decide)]
    refine Ok.bnv _ (m_takesBack_v hz th hput hx) (fun y hy' => ?_)
    unfold spLaw
    rw [← ha]
    by_cases cw : what = 0
    · rw [if_pos cw, if_pos cw]; exact Ok.of ⟨rfl, hy'⟩
    · rw [if_neg cw, if_neg cw]; exact Ok.of ⟨rfl, hy'⟩
