/-! PART 56: plain: the Model: sources, probe -/
set_option maxRecDepth 100000
theorem mT.scr62 {k : SK} {z1 x : MS} {v : SW} (h : mT k z1 v x) (i : Nat) (b : Int32) : mT k z1 v (wA x 62 i b) := by
  obtain ⟨c, h1, h2, h3, h4, h5⟩ := h
  refine ⟨c, ⟨h1.1, h1.2.1, mSK_now h1.2.2.1 (fun a ha => mA_wne x (by rintro rfl; simp at ha) i b), sw_scr h1.2.2.2 (by decide) i b⟩, h2.tr ⟨fun _ _ _ _ _ => rfl, rfl, fun a _ _ _ h => mA_wne x h i b, fun _ _ => rfl⟩, h3, h4, ?_⟩
  rw [if_pos rfl] at h5 ⊢
  rw [mA_wne x (by decide)]
  exact h5
theorem mT.put63 {k : SK} {z1 x : MS} {v : SW} (h : mT k z1 v x) (i : Nat) (b : Int32) : mT k (wA z1 63 i b) v (wA x 63 i b) := by
  obtain ⟨c, h1, h2, h3, h4, h5⟩ := h
  refine ⟨c, ⟨h1.1, h1.2.1, mSK_now h1.2.2.1 (fun a ha => mA_wne x (by rintro rfl; simp at ha) i b), sw_scr h1.2.2.2 (by decide) i b⟩, ⟨h2.1, h2.2.1, fun a g1 g2 g3 g4 => ?_, h2.2.2.2⟩, h3, h4, ?_⟩
  · by_cases e : a = 63
    · subst e
      funext j
      rw [mA_w, mA_w, h2.2.2.1 63 (by decide) (by decide) (by decide) (by decide)]
    · rw [mA_wne x e, mA_wne z1 e, h2.2.2.1 a g1 g2 g3 g4]
  · rw [if_pos rfl] at h5 ⊢
    rw [mA_wne x (by decide), mA_wne z1 (by decide)]
    exact h5
theorem mTh.put63 {k : SK} {w : SW} {z1 : MS} (h : mTh k w z1) (i : Nat) (b : Int32) : mTh k w (wA z1 63 i b) := by
  obtain ⟨h1, h2, h3⟩ := h
  refine ⟨⟨h1.1, h1.2.1, mSK_now h1.2.2.1 (fun a ha => mA_wne z1 (by rintro rfl; simp at ha) i b), sw_scr h1.2.2.2 (by decide) i b⟩, h2, fun j hj => ?_⟩
  rw [mA_wne z1 (by decide), mA_wne z1 (by decide)]
  exact h3 j hj
theorem mPutW.put63 {z z1 : MS} (h : mPutW z z1) (i : Nat) (b : Int32) : mPutW z (wA z1 63 i b) := ⟨h.1, h.2.1, fun a g1 g2 => by rw [mA_wne z1 g2]; exact h.2.2.1 a g1 g2, h.2.2.2⟩
/-- the rows heard -/
def mHr (l : List (Nat × Nat)) (z : MS) : Prop := l.length ≤ 16 ∧ mI z 60 = nI l.length ∧ ∀ i, i < l.length → mA z 61 (2 * i) = nI (l.getD i (0, 0)).1 ∧ mA z 61 (2 * i + 1) = nI (l.getD i (0, 0)).2
def hrOk (k : SK) (l : List (Nat × Nat)) : Prop := ∀ i, i < l.length → (l.getD i (0, 0)).1 < kP k ∧ (l.getD i (0, 0)).2 < 3
theorem mHr.of {l : List (Nat × Nat)} {z y : MS} (h : mHr l z) (e1 : mI y 60 = mI z 60) (e2 : mA y 61 = mA z 61) : mHr l y := by
  unfold mHr
  rw [e1, e2]
  exact h
/-- one is taken as the source of an error, all others who are anything of it are right of it -/
def sSrcS (w : SW) (s f p : Nat) (v : SW) : SW := if sIs w p f = 0 then v else sMake v p f (if p = s then 2 else 1)
def sSrcV (k : SK) (w : SW) (s f n : Nat) : SW := sYears k n (itN (sSrcS w s f) (kP k) 0 w)
def sSrc (k : SK) (w : SW) (l : List (Nat × Nat)) (s f n : Nat) : Bool := decide (sIs w s f ≠ 0) && (List.range l.length).all fun i => decide (sIs (sSrcV k w s f n) (l.getD i (0, 0)).1 f = (l.getD i (0, 0)).2)
theorem sSrc_fr {k : SK} {w : SW} (hk : kOk k) (h : wOk k w) {s f : Nat} (hf : f < kF k) (n : Nat) (hn : n ≤ kP k) : wOk k (itN (sSrcS w s f) n 0 w) ∧ wY (itN (sSrcS w s f) n 0 w) = wY w ∧ ∀ q, n ≤ q → wR (itN (sSrcS w s f) n 0 w) q = wR w q ∧ wW (itN (sSrcS w s f) n 0 w) q = wW w q := by
  have := itN_inv (Inv := fun j v => wOk k v ∧ wY v = wY w ∧ ∀ q, j ≤ q → wR v q = wR w q ∧ wW v q = wW w q) (m := kP k) (st := sSrcS w s f) (fun j v hj hv => ?_) n 0 w (by omega) ⟨h, rfl, fun _ _ => ⟨rfl, rfl⟩⟩
  · rw [Nat.zero_add] at this
    exact this
  · obtain ⟨h1, h2, h3⟩ := hv
    unfold sSrcS
    split
    · exact ⟨h1, h2, fun q hq => h3 q (by omega)⟩
    · refine ⟨wOk.make hk h1 hj hf (by split; exact Or.inr rfl; exact Or.inl rfl), h2, fun q hq => ?_⟩
      rw [wR_make, wW_make, if_neg (by omega), if_neg (by omega)]
      exact h3 q (by omega)
theorem m_isSource_v {k : SK} {w : SW} {z1 x : MS} {l : List (Nat × Nat)} (th : mTh k w z1) (hx : mT k z1 w x) (hl : mHr l z1) (hk : hrOk k l) {s f n : Nat} (hs : s < kP k) (hf : f < kF k) (hy : wY w + n ≤ 2000) : Ok (m_isSource (nI s) (nI f) (nI n) x) (fun r => r.1 = sSrc k w l s f n ∧ mT k z1 w r.2 ∧ (r.1 = true → ∀ p, p < kP k → mA r.2 62 p = nI (sIs (sSrcV k w s f n) p f))) := by
  have h8 := th.1.1.2.1
  have hF8 := th.1.1.1
  have l1 := sIs_lt w s f
  unfold m_isSource
  rw [m_isOf_v hx.ok hs (by omega), bnd_s]
  by_cases c0 : sIs w s f = 0
  · rw [if_pos (by rw [c0]; rfl)]
    refine Ok.of ⟨?_, hx, fun q => by cases q⟩
    unfold sSrc
    rw [decide_eq_false (by simpa using c0)]
    rfl
  rw [if_neg (nI_ne0 (by omega) (by omega))]
  simp only [jn_s]
  refine fx_okN (F := m_isSource_L14 (nI s) (nI f) _) (z := fun _ _ => none) (fun g j y => g (nI j) y) (kP k) (fun j y => mT k z1 (itN (sSrcS w s f) j 0 w) y) _ ?_ ?_ FU 0 x (Nat.zero_le _) hx (FU_gt (by omega))
  · intro g j y hj hy' go
    obtain ⟨o1, o2, o3⟩ := sSrc_fr th.1.1 th.1.2.1 (s := s) hf j (by omega)
    have hS : itN (sSrcS w s f) (j + 1) 0 w = sSrcS w s f j (itN (sSrcS w s f) j 0 w) := itN_S _ _ _
    rw [hS] at go
    have ei : sIs (itN (sSrcS w s f) j 0 w) j f = sIs w j f := by
      unfold sIs
      rw [(o3 j (Nat.le_refl _)).1, (o3 j (Nat.le_refl _)).2]
    have l2 := sIs_lt w j f
    show Ok (m_isSource_L14 (nI s) (nI f) _ g (nI j) y) _
    unfold m_isSource_L14
    rw [m_personMany_v hy'.ok, bnd_s, if_neg (nI_ge hj (by omega)), m_isOf_v hy'.ok hj (by omega), bnd_s, ei]
    simp only [jn_s]
    unfold sSrcS at go
    by_cases c1 : sIs w j f = 0
    · rw [if_pos c1] at go
      rw [if_pos (by rw [c1]; rfl), nI_1]
      exact go y hy'
    · rw [if_neg c1] at go
      rw [if_neg (nI_ne0 (by omega) (by omega))]
      have mk : ∀ v, v = 1 ∨ v = 2 → v = (if j = s then 2 else 1) → Ok (bnv (m_makes (nI j) (nI f) (nI v) y) fun z16 => g (nI j + 1) z16) (fun r => r.1 = sSrc k w l s f n ∧ mT k z1 w r.2 ∧ (r.1 = true → ∀ p, p < kP k → mA r.2 62 p = nI (sIs (sSrcV k w s f n) p f))) := fun v hv he => by
        rw [← he] at go
        obtain ⟨y2, g1, g2, g3⟩ := m_makes_v hy'.ok hj (f := f) (by omega) hv
        rw [g1, bnv_s, nI_1]
        exact go y2 (hy'.same g3.same (wOk.make th.1.1 o1 hj hf hv) g2)
      by_cases c2 : j = s
      · rw [if_pos (by rw [c2])]
        exact mk 2 (Or.inr rfl) (by rw [if_pos c2])
      · rw [if_neg (fun q => c2 ((nI_eq (by omega) (by omega)).mp q))]
        exact mk 1 (Or.inl rfl) (by rw [if_neg c2])
  · intro g y hy'
    obtain ⟨o1, o2, o3⟩ := sSrc_fr th.1.1 th.1.2.1 (s := s) hf (kP k) (Nat.le_refl _)
    show Ok (m_isSource_L14 (nI s) (nI f) _ g (nI (kP k)) y) _
    unfold m_isSource_L14
    rw [m_personMany_v hy'.ok, bnd_s, if_pos (nI_le (Nat.le_refl _) (by omega))]
    refine Ok.bnv _ (hy'.years (n := n) (by omega)) (fun y2 hy2 => ?_)
    have hy2 : mT k z1 (sSrcV k w s f n) y2 := hy2
    refine fx_okN (F := m_isSource_L65 (nI f) _) (z := fun _ _ => none) (fun g j y => g (nI j) y) (kP k) (fun j y => mT k z1 (sSrcV k w s f n) y ∧ ∀ p, p < j → mA y 62 p = nI (sIs (sSrcV k w s f n) p f)) _ ?_ ?_ FU 0 y2 (Nat.zero_le _) ⟨hy2, fun p hp => absurd hp (Nat.not_lt_zero _)⟩ (FU_gt (by omega))
    · rintro g2 j y3 hj ⟨hy3, hh⟩ go
      show Ok (m_isSource_L65 (nI f) _ g2 (nI j) y3) _
      unfold m_isSource_L65
      rw [m_personMany_v hy3.ok, bnd_s, if_neg (nI_ge hj (by omega)), m_isOf_v hy3.ok hj (by omega), bnd_s, ck_t (inb_nI (by show _ < 8; omega) (by decide)), nm_s, nI_c (by omega), nI_1]
      refine go _ ⟨hy3.scr62 _ _, fun p hp => ?_⟩
      rw [mA_w]
      by_cases e : p = j
      · rw [if_pos e, e]
      · rw [if_neg e]
        exact hh p (by omega)
    · rintro g2 y3 ⟨hy3, hh⟩
      show Ok (m_isSource_L65 (nI f) _ g2 (nI (kP k)) y3) _
      unfold m_isSource_L65
      rw [m_personMany_v hy3.ok, bnd_s, if_pos (nI_le (Nat.le_refl _) (by omega))]
      refine Ok.bnv _ (m_triesAnew_v th hy3) (fun y4 hy4 => ?_)
      obtain ⟨hy4, -, h62⟩ := hy4
      have hl4 : mHr l y4 := by
        obtain ⟨c, q1, q2, -⟩ := hy4
        exact hl.of (q2.1 60 (by decide) (by decide) (by decide) (by decide)) (q2.2.2.1 61 (by decide) (by decide) (by decide) (by decide))
      have h62' : ∀ p, p < kP k → mA y4 62 p = nI (sIs (sSrcV k w s f n) p f) := fun p hp => by rw [h62]; exact hh p hp
      have hsrc : ∀ b : Bool, (b = true ↔ ∀ i, i < l.length → sIs (sSrcV k w s f n) (l.getD i (0, 0)).1 f = (l.getD i (0, 0)).2) → b = sSrc k w l s f n := fun b hb => by
        have : sSrc k w l s f n = true ↔ ∀ i, i < l.length → sIs (sSrcV k w s f n) (l.getD i (0, 0)).1 f = (l.getD i (0, 0)).2 := by
          unfold sSrc
          rw [decide_eq_true (show sIs w s f ≠ 0 from c0), Bool.true_and, List.all_eq_true]
          constructor
          · intro q i hi
            exact of_decide_eq_true (q i (List.mem_range.mpr hi))
          · intro q i hi
            exact decide_eq_true (q i (List.mem_range.mp hi))
        cases b with
        | true => rw [this.mpr (hb.mp rfl)]
        | false =>
          cases e : sSrc k w l s f n with
          | false => rfl
          | true => exact (hb.mpr (this.mp e)).symm ▸ rfl
      refine fx_okN (F := m_isSource_L101) (z := fun _ _ => none) (fun g j y => g (nI j) y) l.length (fun j y => y = y4 ∧ ∀ i, i < j → sIs (sSrcV k w s f n) (l.getD i (0, 0)).1 f = (l.getD i (0, 0)).2) _ ?_ ?_ FU 0 y4 (Nat.zero_le _) ⟨rfl, fun i hi => absurd hi (Nat.not_lt_zero _)⟩ (FU_gt (by have := hl.1; omega))
      · rintro g3 j y5 hj ⟨rfl, hi⟩ go
        have h16 := hl.1
        obtain ⟨q1, q2⟩ := hk j hj
        obtain ⟨r1, r2⟩ := hl4.2.2 j hj
        have l3 := sIs_lt (sSrcV k w s f n) (l.getD j (0, 0)).1 f
        show Ok (m_isSource_L101 g3 (nI j) y5) _
        unfold m_isSource_L101
        rw [hl4.2.1, if_neg (nI_ge hj (by omega)), show (2 : Int32) = nI 2 from rfl, nI_mul, nI_1, ck_t (inb_nI (by show _ < 32; omega) (by decide)), nI_c (by omega), nI_c (by omega), r1, r2, ck_t (inb_nI (by show _ < 8; omega) (by decide)), ck_t (inb_nI (by show _ < 32; omega) (by decide)), nI_c (by omega), h62' _ q1]
        by_cases e : sIs (sSrcV k w s f n) (l.getD j (0, 0)).1 f = (l.getD j (0, 0)).2
        · rw [if_pos (by rw [e]), nI_1]
          refine go y5 ⟨rfl, fun i hi' => ?_⟩
          by_cases e2 : i = j
          · rw [e2]; exact e
          · exact hi i (by omega)
        · rw [if_neg (fun q => e ((nI_eq (by omega) (by omega)).mp q))]
          exact Ok.of ⟨hsrc false ⟨fun q => (by cases q), fun q => absurd (q j hj) e⟩, hy4, fun q => by cases q⟩
      · rintro g3 y5 ⟨rfl, hi⟩
        have h16 := hl.1
        show Ok (m_isSource_L101 g3 (nI l.length) y5) _
        unfold m_isSource_L101
        rw [hl4.2.1, if_pos (nI_le (Nat.le_refl _) (by omega))]
        exact Ok.of ⟨hsrc true ⟨fun _ => hi, fun _ => rfl⟩, hy4, fun _ => h62'⟩
def sSou (k : SK) (w : SW) (l : List (Nat × Nat)) (f n m : Nat) : Nat := itN (fun s a => if sSrc k w l s f n = true then a ||| 2 ^ s else a) m 0 0
theorem m_sources_v {k : SK} {w : SW} {z : MS} {l : List (Nat × Nat)} (h : mOk k w z) (hz : mI z 58 = bI false) (hl : mHr l z) (hk : hrOk k l) (a n : Int32) : Ok (m_sources a n z) (fun r => r.1 = (if sPn (kF k) a = true ∧ sAh w n 0 20 = true then nI (sSou k w l a.toNatClampNeg n.toNatClampNeg (kP k)) else -1) ∧ mBk z r.2) := by
  unfold m_sources
  rw [m_isFact_s h, bnd_s]
  cases c : sPn (kF k) a with
  | false => exact Ok.of ⟨rfl, mBk.rf z⟩
  | true =>
  have h8 := h.1.2.1
  have hF8 := h.1.1
  obtain ⟨f, hf, rfl⟩ := sPn_nat c hF8
  rw [if_neg (by decide), m_isAhead_v h n 0 20 (by decide) (by decide), bnd_s, show (0 : Int32).toInt = 0 from by decide, show (20 : Int32).toInt = 20 from by decide]
  cases c1 : sAh w n 0 20 with
  | false => exact Ok.of ⟨rfl, mBk.rf z⟩
  | true =>
  obtain ⟨n, rfl, -, h20, h99⟩ := sAh_nat c1 (by decide) (by decide)
  rw [if_neg (by decide), if_pos ⟨rfl, rfl⟩, nI_c (by omega), nI_c (by omega)]
  refine Ok.bnv _ (m_putsAside_v h) (fun z1 hz1 => ?_)
  obtain ⟨th, hput⟩ := hz1
  have hl1 : mHr l z1 := hl.of (hput.1 60 (by decide)) (hput.2.2.1 61 (by decide))
  rw [jn_s]
  refine fx_okN (F := m_sources_L30 (nI f) (nI n) _) (z := fun _ _ _ => none) (fun s j (b : Nat × MS) => s (nI b.1) (nI j) b.2) (kP k) (fun j b => b.1 = sSou k w l f n j ∧ b.1 < 256 ∧ mT k z1 w b.2) _ ?_ ?_ FU 0 (0, z1) (Nat.zero_le _) ⟨rfl, (show 0 < 256 by decide), th.t⟩ (FU_gt (by omega))
  · rintro s j ⟨a, x⟩ hj ⟨ha, ha2, hx⟩ go
    have ha : a = sSou k w l f n j := ha
    have ha2 : a < 256 := ha2
    have hx : mT k z1 w x := hx
    have hS : sSou k w l f n (j + 1) = if sSrc k w l j f n = true then a ||| 2 ^ j else a := by rw [ha]; exact itN_S _ _ _
    show Ok (m_sources_L30 (nI f) (nI n) _ s (nI a) (nI j) x) _
    unfold m_sources_L30
    rw [m_personMany_v hx.ok, bnd_s, if_neg (nI_ge hj (by omega))]
    refine Ok.bnd _ (m_isSource_v th hx hl1 hk hj hf (n := n) (by omega)) (fun r y hr => ?_)
    obtain ⟨e, hy', -⟩ := hr
    have e : r = sSrc k w l j f n := e
    rw [← e] at hS
    simp only [jn_s]
    cases r with
    | false =>
      rw [if_neg (by decide)] at hS
      rw [if_pos (by decide), nI_1]
      exact go (a, y) ⟨hS.symm, ha2, hy'⟩
    | true =>
      rw [if_pos rfl] at hS
      rw [if_neg (by decide), s_or a ha2 j (by omega), nI_1]
      exact go (a ||| 2 ^ j, y) ⟨hS.symm, s_orlt a ha2 j (by omega), hy'⟩
  · rintro s ⟨a, x⟩ ⟨ha, ha2, hx⟩
    have ha : a = sSou k w l f n (kP k) := ha
    have hx : mT k z1 w x := hx
    show Ok (m_sources_L30 (nI f) (nI n) _ s (nI a) (nI (kP k)) x) _
    unfold m_sources_L30
    rw [m_personMany_v hx.ok, bnd_s, if_pos (nI_le (Nat.le_refl _) (by omega))]
    exact Ok.bnv _ (m_takesBack_v hz th hput hx) (fun y hy' => Ok.of ⟨by rw [ha], hy'⟩)
/-- how many sources there are; of person p by how many of them he is v -/
def sCnt (k : SK) (w : SW) (l : List (Nat × Nat)) (f n m : Nat) : Nat := cnt (fun s => if sSrc k w l s f n = true then 1 else 0) m
def sCls (k : SK) (w : SW) (l : List (Nat × Nat)) (f n m p v : Nat) : Nat := cnt (fun s => if sSrc k w l s f n = true ∧ sIs (sSrcV k w s f n) p f = v then 1 else 0) m
theorem sCls_le (k : SK) (w : SW) (l : List (Nat × Nat)) (f n m p v : Nat) : sCls k w l f n m p v ≤ m := cnt_le m (fun q _ => by split <;> omega)
theorem sCnt_le (k : SK) (w : SW) (l : List (Nat × Nat)) (f n m : Nat) : sCnt k w l f n m ≤ m := cnt_le m (fun q _ => by split <;> omega)
def sMst (k : SK) (w : SW) (l : List (Nat × Nat)) (f n p : Nat) : Nat := max (sCls k w l f n (kP k) p 0) (max (sCls k w l f n (kP k) p 1) (sCls k w l f n (kP k) p 2))
def sPrbS (k : SK) (w : SW) (l : List (Nat × Nat)) (f n p : Nat) (a : Nat × Nat) : Nat × Nat := if a.1 = 0 ∨ sMst k w l f n p < a.2 then (p + 1, sMst k w l f n p) else a
def sPrb (k : SK) (w : SW) (l : List (Nat × Nat)) (f n m : Nat) : Nat × Nat := itN (sPrbS k w l f n) m 0 (0, 0)
theorem sMst_le (k : SK) (w : SW) (l : List (Nat × Nat)) (f n p : Nat) : sMst k w l f n p ≤ kP k := by
  have := sCls_le k w l f n (kP k) p 0
  have := sCls_le k w l f n (kP k) p 1
  have := sCls_le k w l f n (kP k) p 2
  unfold sMst
  omega
theorem sPrb_in (k : SK) (w : SW) (l : List (Nat × Nat)) (f n : Nat) : ∀ m, (sPrb k w l f n m).1 ≤ m ∧ (sPrb k w l f n m).2 ≤ kP k
  | 0 => ⟨Nat.le_refl _, Nat.zero_le _⟩
  | m + 1 => by
    obtain ⟨h1, h2⟩ := sPrb_in k w l f n m
    have e : sPrb k w l f n (m + 1) = sPrbS k w l f n m (sPrb k w l f n m) := itN_S _ _ _
    rw [e]
    have := sMst_le k w l f n m
    unfold sPrbS
    split
    · exact ⟨Nat.le_refl _, this⟩
    · exact ⟨by omega, h2⟩
def sPrbA (k : SK) (w : SW) (l : List (Nat × Nat)) (f n : Nat) : Nat × Nat := if sCnt k w l f n (kP k) = 0 then (0, 0) else sPrb k w l f n (kP k)
def spProbe (k : SK) (w : SW) (l : List (Nat × Nat)) (f n : Nat) (what : Int32) : Int32 := if (sPrbA k w l f n).1 = 0 ∨ what = 0 then nI (sPrbA k w l f n).1 - 1 else nI (sPrbA k w l f n).2
