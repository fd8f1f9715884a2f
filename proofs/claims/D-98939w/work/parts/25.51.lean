/-! PART 51: plain: the Model ahead: thought years; later, doctor, lost -/
set_option maxRecDepth 100000
/-- whether a number lies within bounds -/
def sIn (a : Int32) (lo hi : Int) : Bool := decide (lo ≤ a.toInt ∧ a.toInt ≤ hi)
theorem m_isIn_v (a b c : Int64) (z : MS) : m_isIn a b c z = some (decide (b.toInt ≤ a.toInt ∧ a.toInt ≤ c.toInt), z) := by
  unfold m_isIn
  simp only [jn_s]
  by_cases c1 : a < b
  · rw [if_pos c1, decide_eq_false]
    have := Int64.lt_iff_toInt_lt.mp c1
    omega
  · rw [if_neg c1]
    by_cases c2 : c < a
    · rw [if_pos c2, decide_eq_false]
      have := Int64.lt_iff_toInt_lt.mp c2
      omega
    · rw [if_neg c2, decide_eq_true]
      have h1 := mt Int64.lt_iff_toInt_lt.mpr c1
      have h2 := mt Int64.lt_iff_toInt_lt.mpr c2
      omega
theorem m_isIn_i (a : Int32) (b c : Int64) (z : MS) : m_isIn a.toInt64 b c z = some (sIn a b.toInt c.toInt, z) := by
  rw [m_isIn_v, Int32.toInt_toInt64]
  rfl
theorem sIn_nat {a : Int32} {lo hi : Int} (h : sIn a lo hi = true) (h0 : 0 ≤ lo) (h1 : hi < 2 ^ 31) : ∃ n : Nat, a = nI n ∧ lo ≤ n ∧ (n : Int) ≤ hi := by
  have := of_decide_eq_true h
  refine ⟨a.toInt.toNat, ?_, by omega, by omega⟩
  apply Int32.toInt_inj.mp
  rw [nI_toInt (by omega)]
  omega
/-- years may come: n of them, within bounds -/
def sAh (w : SW) (n : Int32) (lo hi : Int) : Bool := sIn n lo hi && decide ((wY w : Int) + n.toInt ≤ 999)
theorem m_isAhead_v {k : SK} {w : SW} {z : MS} (h : mOk k w z) (n a b : Int32) (ha : 0 ≤ a.toInt) (hb : b.toInt ≤ 1000) : m_isAhead n a b z = some (sAh w n a.toInt b.toInt, z) := by
  have hy := h.2.1.2.1
  unfold m_isAhead
  rw [m_isIn_i, bnd_s, Int32.toInt_toInt64, Int32.toInt_toInt64, show (Int32.toNatClampNeg 0) = 0 from by decide, h.y]
  simp only [jn_s]
  unfold sAh
  cases c : sIn n a.toInt b.toInt with
  | false => rfl
  | true =>
    rw [if_neg (by decide)]
    have hn := of_decide_eq_true c
    have e : (nI (wY w) + n).toInt = (wY w : Int) + n.toInt := by
      obtain ⟨j, rfl, h1, h2⟩ := sIn_nat c ha (by omega)
      rw [nI_add, nI_toInt (by omega), nI_toInt (by omega)]
      omega
    have e9 : (999 : Int32).toInt = 999 := by decide
    by_cases c2 : 999 < nI (wY w) + n
    · rw [if_pos c2]
      have := Int32.lt_iff_toInt_lt.mp c2
      rw [e, e9] at this
      rw [decide_eq_false (by omega)]
      rfl
    · rw [if_neg c2]
      have := mt Int32.lt_iff_toInt_lt.mpr c2
      rw [e, e9] at this
      rw [decide_eq_true (by omega)]
      rfl
theorem sAh_nat {w : SW} {n : Int32} {lo hi : Int} (h : sAh w n lo hi = true) (h0 : 0 ≤ lo) (h1 : hi < 2 ^ 31) : ∃ m : Nat, n = nI m ∧ lo ≤ m ∧ (m : Int) ≤ hi ∧ wY w + m ≤ 999 := by
  unfold sAh at h
  rw [Bool.and_eq_true] at h
  obtain ⟨m, rfl, h2, h3⟩ := sIn_nat h.1 h0 h1
  have := of_decide_eq_true h.2
  rw [nI_toInt (by omega)] at this
  exact ⟨m, rfl, h2, h3, by omega⟩
/-- y is z but for scratch -/
def mBk (z y : MS) : Prop := (∀ a, a ≠ 52 → a ≠ 55 → a ≠ 59 → a ≠ 100 → mI y a = mI z a) ∧ y.2.1 = z.2.1 ∧ (∀ a, a ≠ 54 → a ≠ 56 → a ≠ 57 → a ≠ 62 → a ≠ 63 → mA y a = mA z a) ∧ ∀ a, a ≠ 99 → mB y a = mB z a
theorem mBk.rf (z : MS) : mBk z z := ⟨fun _ _ _ _ _ => rfl, rfl, fun _ _ _ _ _ _ => rfl, fun _ _ => rfl⟩
theorem mBk.tr {a b c : MS} (h : mBk a b) (g : mBk b c) : mBk a c := ⟨fun x h1 h2 h3 h4 => (g.1 x h1 h2 h3 h4).trans (h.1 x h1 h2 h3 h4), g.2.1.trans h.2.1, fun x h1 h2 h3 h4 h5 => (g.2.2.1 x h1 h2 h3 h4 h5).trans (h.2.2.1 x h1 h2 h3 h4 h5), fun x h1 => (g.2.2.2 x h1).trans (h.2.2.2 x h1)⟩
theorem mEv.bk {z z' : MS} (h : mEv z z') : mBk z z' := ⟨fun a h1 h2 _ h4 => h.1 a h1 h2 h4, h.2.1, fun a _ _ _ _ _ => h.arr a, h.2.2.2⟩
theorem mBk.ok {k : SK} {w : SW} {z z' : MS} (h : mBk z z') (g : mOk k w z) : mOk k w z' := by
  refine ⟨g.1, g.2.1, mSK_now g.2.2.1 (fun a ha => h.2.2.1 a (by rintro rfl; simp at ha) (by rintro rfl; simp at ha) (by rintro rfl; simp at ha) (by rintro rfl; simp at ha) (by rintro rfl; simp at ha)), ?_⟩
  unfold mSW
  rw [h.2.2.1 53 (by decide) (by decide) (by decide) (by decide) (by decide)]
  exact g.2.2.2
theorem mBk.row {l : List (Nat × Nat × Nat)} {z z' : MS} (h : mBk z z') (g : mRow l z) : mRow l z' := by
  unfold mRow
  rw [h.2.2.1 53 (by decide) (by decide) (by decide) (by decide) (by decide)]
  exact g
/-- thought years start from z1 -/
def mTh (k : SK) (w : SW) (z1 : MS) : Prop := mOk k w z1 ∧ mI z1 58 = bI true ∧ ∀ i, i < 41 → mA z1 54 i = mA z1 53 i
def mT (k : SK) (z1 : MS) (v : SW) (x : MS) : Prop := ∃ c, mY true k c z1 v x
theorem mT.ok {k : SK} {z1 x : MS} {v : SW} (h : mT k z1 v x) : mOk k v x := by obtain ⟨c, h⟩ := h; exact h.1
theorem mTh.t {k : SK} {z1 : MS} {w : SW} (h : mTh k w z1) : mT k z1 w z1 := ⟨mI z1 59 - nI (cPas k w), h.1, mF.rf z1, h.2.1, (Int32.sub_add_cancel _ _).symm, by rw [if_pos rfl]; exact fun _ _ => rfl⟩
theorem mT.ev {k : SK} {z1 x y : MS} {v : SW} (h : mT k z1 v x) (g : mEv x y) : mT k z1 v y := by obtain ⟨c, h⟩ := h; exact ⟨c, h.ev g⟩
theorem mT.same {k : SK} {z1 x y : MS} {v v' : SW} (h : mT k z1 v x) (s : mSame x y) (hw : wOk k v') (hs : mSW k v' y) : mT k z1 v' y := by
  obtain ⟨c, h1, h2, h3, h4, h5⟩ := h
  refine ⟨mI y 59 - nI (cPas k v'), s.mok h1 hw hs, h2.tr s.f, by rw [s.1 58 (by decide) (by decide) (by decide), h3], (Int32.sub_add_cancel _ _).symm, ?_⟩
  rw [if_pos rfl] at h5 ⊢
  exact fun i hi => (s.2.2.2.2 i hi).trans (h5 i hi)
theorem m_putsAside_v {k : SK} {w : SW} {z : MS} (h : mOk k w z) : Ok (m_putsAside z) (fun z1 => mTh k w z1 ∧ (∀ a, a ≠ 58 → mI z1 a = mI z a) ∧ z1.2.1 = z.2.1 ∧ (∀ a, a ≠ 54 → mA z1 a = mA z a) ∧ z1.2.2.2 = z.2.2.2) := by
  unfold m_putsAside
  rw [nm_s]
  refine fx_okN (F := m_putsAside_L7) (z := fun _ _ => none) (fun s j x => s (nI j) x) 41 (fun j x => mI x 58 = bI true ∧ (∀ a, a ≠ 58 → mI x a = mI z a) ∧ x.2.1 = z.2.1 ∧ (∀ a, a ≠ 54 → mA x a = mA z a) ∧ x.2.2.2 = z.2.2.2 ∧ ∀ i, i < j → mA x 54 i = mA z 53 i) _ ?_ ?_ FU 0 (wI z 58 (bI true)) (Nat.zero_le _) ⟨by rw [mI_w, if_pos rfl], fun a ha => by rw [mI_w, if_neg ha], rfl, fun _ _ => rfl, rfl, fun i hi => absurd hi (Nat.not_lt_zero _)⟩ (FU_gt (by decide))
  · rintro s j x hj ⟨e1, e2, e3, e4, e5, e6⟩ go
    show Ok (m_putsAside_L7 s (nI j) x) _
    unfold m_putsAside_L7
    rw [if_neg (show ¬ (41 : Int32) ≤ nI j from nI_ge (b := 41) hj (by decide)), ck_t (inb_nI (by show _ < 132; omega) (by decide)), ck_t (inb_nI (by show _ < 41; omega) (by decide)), nm_s, nI_c (by omega), nI_1]
    refine go _ ⟨e1, e2, e3, fun a ha => by rw [mA_wne _ ha, e4 a ha], e5, fun i hi => ?_⟩
    rw [mA_w]
    by_cases c : i = j
    · rw [if_pos c, e4 53 (by decide), c]
    · rw [if_neg c]
      exact e6 i (by omega)
  · rintro s x ⟨e1, e2, e3, e4, e5, e6⟩
    show Ok (m_putsAside_L7 s (nI 41) x) _
    unfold m_putsAside_L7
    rw [if_pos (by decide)]
    refine Ok.of ⟨⟨⟨h.1, h.2.1, mSK_now h.2.2.1 (fun a ha => e4 a (by rintro rfl; simp at ha)), ?_⟩, e1, fun i hi => by rw [e6 i hi, e4 53 (by decide)]⟩, e2, e3, e4, e5⟩
    unfold mSW
    rw [e4 53 (by decide)]
    exact h.2.2.2
theorem m_triesAnew_v {k : SK} {w v : SW} {z1 x : MS} (h : mTh k w z1) (g : mT k z1 v x) : Ok (m_triesAnew x) (fun y => mT k z1 w y ∧ mA y 53 = mA z1 53 ∧ mA y 62 = mA x 62) := by
  obtain ⟨c, g1, g2, g3, g4, g5⟩ := g
  rw [if_pos rfl] at g5
  have e54 : mA x 54 = mA z1 54 := g2.2.2.1 54 (by decide) (by decide) (by decide) (by decide)
  unfold m_triesAnew
  refine fx_okN (F := m_triesAnew_L2) (z := fun _ _ => none) (fun s j y => s (nI j) y) 41 (fun j y => y.1 = x.1 ∧ y.2.1 = x.2.1 ∧ (∀ a, a ≠ 53 → mA y a = mA x a) ∧ y.2.2.2 = x.2.2.2 ∧ ∀ i, mA y 53 i = if i < j then mA z1 53 i else mA x 53 i) _ ?_ ?_ FU 0 x (Nat.zero_le _) ⟨rfl, rfl, fun _ _ => rfl, rfl, fun i => by rw [if_neg (Nat.not_lt_zero _)]⟩ (FU_gt (by decide))
  · rintro s j y hj ⟨e1, e2, e3, e4, e5⟩ go
    show Ok (m_triesAnew_L2 s (nI j) y) _
    unfold m_triesAnew_L2
    rw [if_neg (show ¬ (41 : Int32) ≤ nI j from nI_ge (b := 41) hj (by decide)), ck_t (inb_nI (by show _ < 41; omega) (by decide)), ck_t (inb_nI (by show _ < 132; omega) (by decide)), nm_s, nI_c (by omega), nI_1]
    refine go _ ⟨e1, e2, fun a ha => by rw [mA_wne _ ha, e3 a ha], e4, fun i => ?_⟩
    rw [mA_w, e3 54 (by decide), e54, h.2.2 j hj, e5]
    by_cases c : i = j
    · rw [if_pos c, if_pos (by omega), c]
    · rw [if_neg c]
      by_cases c2 : i < j
      · rw [if_pos c2, if_pos (by omega)]
      · rw [if_neg c2, if_neg (by omega)]
  · rintro s y ⟨e1, e2, e3, e4, e5⟩
    show Ok (m_triesAnew_L2 s (nI 41) y) _
    unfold m_triesAnew_L2
    rw [if_pos (by decide)]
    have e53 : mA y 53 = mA z1 53 := by
      funext i
      rw [e5]
      by_cases c : i < 41
      · rw [if_pos c]
      · rw [if_neg c]
        exact g5 i (by omega)
    have eI : ∀ a, mI y a = mI x a := fun a => by unfold mI; rw [e1]
    have eB : ∀ a, mB y a = mB x a := fun a => by unfold mB; rw [e4]
    have fxy : mF x y := ⟨fun a _ _ _ _ => eI a, e2, fun a ha _ _ _ => e3 a ha, fun a _ => eB a⟩
    refine Ok.of ⟨⟨mI y 59 - nI (cPas k w), ⟨h.1.1, h.1.2.1, fxy.sk g1.2.2.1, ?_⟩, g2.tr fxy, by rw [eI, g3], (Int32.sub_add_cancel _ _).symm, ?_⟩, e53, e3 62 (by decide)⟩
    · unfold mSW
      rw [e53]
      exact h.1.2.2.2
    · rw [if_pos rfl, e53]
      exact fun _ _ => rfl
/-- z1 is z with thought begun (and scratch) -/
def mPutW (z z1 : MS) : Prop := (∀ a, a ≠ 58 → mI z1 a = mI z a) ∧ z1.2.1 = z.2.1 ∧ (∀ a, a ≠ 54 → a ≠ 63 → mA z1 a = mA z a) ∧ z1.2.2.2 = z.2.2.2
theorem m_takesBack_w {k : SK} {w v : SW} {z z1 x : MS} (hz : mI z 58 = bI false) (h : mTh k w z1) (hp : mPutW z z1) (g : mT k z1 v x) : Ok (m_takesBack x) (fun y => mBk z y ∧ mA y 63 = mA z1 63) := by
  unfold m_takesBack
  refine Ok.bnv _ (m_triesAnew_v h g) (fun y hy => ?_)
  obtain ⟨⟨c, q1, q2, q3, q4, q5⟩, q6, -⟩ := hy
  rw [nm_s]
  refine Ok.of ⟨⟨fun a h1 h2 h3 h4 => ?_, q2.2.1.trans hp.2.1, fun a h1 h2 h3 h4 h5 => ?_, fun a ha => ?_⟩, q2.2.2.1 63 (by decide) (by decide) (by decide) (by decide)⟩
  · rw [mI_w]
    by_cases c : a = 58
    · rw [if_pos c, c, hz]
    · rw [if_neg c, q2.1 a h1 h2 h3 h4, hp.1 a c]
  · show mA y a = _
    by_cases c : a = 53
    · rw [c, q6, hp.2.2.1 53 (by decide) (by decide)]
    · rw [q2.2.2.1 a c h2 h3 h4, hp.2.2.1 a h1 h5]
  · show mB y a = _
    rw [q2.2.2.2 a ha]
    unfold mB
    rw [hp.2.2.2]
/-- z1 is z with thought begun -/
def mPut (z z1 : MS) : Prop := (∀ a, a ≠ 58 → mI z1 a = mI z a) ∧ z1.2.1 = z.2.1 ∧ (∀ a, a ≠ 54 → mA z1 a = mA z a) ∧ z1.2.2.2 = z.2.2.2
theorem mPut.w {z z1 : MS} (h : mPut z z1) : mPutW z z1 := ⟨h.1, h.2.1, fun a h1 _ => h.2.2.1 a h1, h.2.2.2⟩
theorem m_takesBack_v {k : SK} {w v : SW} {z z1 x : MS} (hz : mI z 58 = bI false) (h : mTh k w z1) (hp : mPut z z1) (g : mT k z1 v x) : Ok (m_takesBack x) (fun y => mBk z y) := (m_takesBack_w hz h hp.w g).mono (fun _ q => q.1)
theorem mT.year {k : SK} {z1 x : MS} {v : SW} (h : mT k z1 v x) (hy : wY v < 2000) : Ok (m_yearGoes 0 x) (fun y => mT k z1 (sYear k v 0) y) := by
  obtain ⟨c, h⟩ := h
  exact (m_yearGoes_v h (ill := 0) (by decide) hy).mono (fun y q => ⟨c, q⟩)
theorem mT.years {k : SK} {z1 x : MS} {v : SW} (h : mT k z1 v x) {n : Nat} (hy : wY v + n ≤ 2000) : Ok (m_yearsGo (nI n) x) (fun y => mT k z1 (sYears k n v) y) := by
  obtain ⟨c, h⟩ := h
  exact (m_yearsGo_v h hy).mono (fun y q => ⟨c, q⟩)
theorem sWho_lt (w : SW) (n b : Nat) (hn : n ≤ 8) : sWho w n b < 256 := by
  unfold sWho
  have := itN_inv (σ := Nat) (st := fun p s => if (wF w p).testBit b = true then s ||| 2 ^ p else s) (Inv := fun _ s => s < 256) (m := n) (fun j a hj ha => by
    by_cases c : (wF w j).testBit b = true
    · simp only [if_pos c]
      exact s_orlt a ha j (by omega)
    · simp only [if_neg c]
      exact ha) n 0 0 (by omega) (by decide)
  exact this
/-- later -/
def spLater (k : SK) (w : SW) (n what : Int32) : Int32 := if sAh w n 0 40 = true ∧ sIn what 0 3 = true then (if what = 0 then nI (sWho (sYears k n.toNatClampNeg w) (kP k) 0) else if what = 1 then nI (sWho (sYears k n.toNatClampNeg w) (kP k) 1) else nI (sBel (sYears k n.toNatClampNeg w) (kP k) (decide (what = 3)))) else -1
theorem m_later_v {k : SK} {w : SW} {z : MS} (h : mOk k w z) (hz : mI z 58 = bI false) (n what : Int32) : Ok (m_later n what z) (fun r => r.1 = spLater k w n what ∧ mBk z r.2) := by
  unfold m_later spLater
  rw [m_isAhead_v h n 0 40 (by decide) (by decide), bnd_s, show (0 : Int32).toInt = 0 from by decide, show (40 : Int32).toInt = 40 from by decide]
  cases c1 : sAh w n 0 40 with
  | false =>
    rw [if_pos (by decide), if_neg (by simp)]
    exact Ok.of ⟨rfl, mBk.rf z⟩
  | true =>
    rw [if_neg (by decide), m_isIn_i, bnd_s, show (0 : Int64).toInt = 0 from by decide, show (3 : Int64).toInt = 3 from by decide]
    cases c2 : sIn what 0 3 with
    | false =>
      rw [if_pos (by decide), if_neg (by simp)]
      exact Ok.of ⟨rfl, mBk.rf z⟩
    | true =>
      rw [if_neg (by decide), if_pos ⟨rfl, rfl⟩]
      obtain ⟨m, rfl, -, h40, h99⟩ := sAh_nat c1 (by decide) (by decide)
      obtain ⟨a, rfl, -, ha⟩ := sIn_nat c2 (by decide) (by decide)
      refine Ok.bnv _ (m_putsAside_v h) (fun z1 hz1 => ?_)
      obtain ⟨th, hp⟩ := hz1
      refine Ok.bnv _ (th.t.years (n := m) (by omega)) (fun x hx => ?_)
      rw [nI_c (by omega)]
      have done : ∀ v : Int32, Ok (bnv (m_takesBack x) fun z6 => some (v, z6)) (fun r => r.1 = v ∧ mBk z r.2) := fun v => Ok.bnv _ (m_takesBack_v hz th hp hx) (fun y hy => Ok.of ⟨rfl, hy⟩)
      simp only [jn_s]
      rcases (show a = 0 ∨ a = 1 ∨ a = 2 ∨ a = 3 by omega) with rfl | rfl | rfl | rfl
      · have e := m_thoseWho_v hx.ok (b := 0) (by decide)
        have e : m_thoseWho (nI 0 + 1) x = _ := e
        rw [if_neg (by decide), if_pos (by decide), e, bnd_s]
        exact done _
      · have e := m_thoseWho_v hx.ok (b := 1) (by decide)
        have e : m_thoseWho (nI 1 + 1) x = _ := e
        rw [if_neg (by decide), if_neg (by decide), if_pos (by decide), e, bnd_s]
        exact done _
      · rw [if_pos (by decide), if_neg (by decide), if_neg (by decide), if_neg (by decide), m_beliefs_v hx.ok, bnd_s]
        exact done _
      · rw [if_pos (by decide), if_pos (by decide), if_neg (by decide), if_neg (by decide), m_beliefs_v hx.ok, bnd_s]
        exact done _
/-- how many years till P, at most so many more and none past 999 -/
def sTill (k : SK) (P : SW → Bool) : Nat → SW → Nat → Option Nat
  | 0, v, j => if P v = true then some j else none
  | n + 1, v, j => if P v = true then some j else if wY v < 999 then sTill k P n (sYear k v 0) (j + 1) else none
def oM1 (o : Option Nat) : Int32 := match o with
  | some j => nI j
  | none => -1
