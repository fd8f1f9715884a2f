/-! PART 26: plain: the Model is told facts, persons, beliefs, masters -/
set_option maxRecDepth 100000
theorem mA_g (z : MS) (k i : Nat) (v : Int32) (a j : Nat) : mA (wA z k i v) a j = if a = k ∧ j = i then v else mA z a j := by
  by_cases c : a = k
  · subst c
    rw [mA_w]
    by_cases c2 : j = i
    · rw [if_pos c2, if_pos ⟨rfl, c2⟩]
    · rw [if_neg c2, if_neg (fun g => c2 g.2)]
  · rw [mA_wne z c, if_neg (fun g => c g.1)]
theorem mB_g (z : MS) (k i : Nat) (v : Int64) (a j : Nat) : mB (wB z k i v) a j = if a = k ∧ j = i then v else mB z a j := by
  by_cases c : a = k
  · subst c
    rw [mB_w]
    by_cases c2 : j = i
    · rw [if_pos c2, if_pos ⟨rfl, c2⟩]
    · rw [if_neg c2, if_neg (fun g => c2 g.2)]
  · rw [mB_wne z c, if_neg (fun g => c g.1)]
def frI (a : Nat) : Bool := decide (a ≠ 2 ∧ a ≠ 4 ∧ a ≠ 5 ∧ a ≠ 6 ∧ a ≠ 38 ∧ a ≠ 50 ∧ a ≠ 52 ∧ a ≠ 94 ∧ a ≠ 96 ∧ a ≠ 97 ∧ a ≠ 98)
def frA (a i : Nat) : Bool := if a = 39 then decide (2 ≤ i) else if a = 41 ∨ a = 42 then decide (8 ≤ i) else if a = 46 ∨ a = 47 ∨ a = 48 then decide (3 ≤ i) else if a = 49 then decide (1600 ≤ i) else decide (a ≠ 43 ∧ a ≠ 44 ∧ a ≠ 45 ∧ a ≠ 93 ∧ a ≠ 95)
def frB (a i : Nat) : Bool := if a = 40 then decide (16 ≤ i) else true
/-- only what is being told is changed -/
def mSf (z z' : MS) : Prop := (∀ a, frI a = true → mI z' a = mI z a) ∧ z'.2.1 = z.2.1 ∧ (∀ a i, frA a i = true → mA z' a i = mA z a i) ∧ ∀ a i, frB a i = true → mB z' a i = mB z a i
theorem mSf.rf (z : MS) : mSf z z := ⟨fun _ _ => rfl, rfl, fun _ _ _ => rfl, fun _ _ _ => rfl⟩
theorem mSf.tr {z1 z2 z3 : MS} (h : mSf z1 z2) (g : mSf z2 z3) : mSf z1 z3 := ⟨fun a k => (g.1 a k).trans (h.1 a k), g.2.1.trans h.2.1, fun a i k => (g.2.2.1 a i k).trans (h.2.2.1 a i k), fun a i k => (g.2.2.2 a i k).trans (h.2.2.2 a i k)⟩
theorem mSf.int (z : MS) {k : Nat} (hk : frI k = false) (v : Int32) : mSf z (wI z k v) := ⟨fun a h => mI_ne z (by rintro rfl; rw [hk] at h; cases h) v, rfl, fun _ _ _ => rfl, fun _ _ _ => rfl⟩
theorem mSf.arr (z : MS) {k i : Nat} (hk : frA k i = false) (v : Int32) : mSf z (wA z k i v) := ⟨fun _ _ => rfl, rfl, fun a j h => by
  rw [mA_g, if_neg (by rintro ⟨rfl, rfl⟩; rw [hk] at h; cases h)], fun _ _ _ => rfl⟩
theorem mSf.brr (z : MS) {k i : Nat} (hk : frB k i = false) (v : Int64) : mSf z (wB z k i v) := ⟨fun _ _ => rfl, rfl, fun _ _ _ => rfl, fun a j h => by
  rw [mB_g, if_neg]
  rintro ⟨rfl, rfl⟩
  rw [hk] at h
  cases h⟩
theorem mRn.sf {z z' : MS} (h : mRn z z') : mSf z z' := ⟨fun a k => by
  have := of_decide_eq_true k
  exact h.1 a this.1 this.2.1 this.2.2.1 this.2.2.2.1 this.2.2.2.2.1, by rw [h.2], fun a i _ => by unfold mA; rw [h.2], fun a i _ => by unfold mB; rw [h.2]⟩
theorem mQf.sf {z z' : MS} (h : mQf z z') : mSf z z' := ⟨fun a k => by
  have := of_decide_eq_true k
  exact h.1 a (by omega) (by omega) (by omega) (by omega) (by omega) (by omega) (by omega) (by omega), h.2.1, fun a i k => by
  have hk : a ≠ 93 ∧ a ≠ 95 := by
    constructor
    · rintro rfl; exact absurd k (by show ¬ (false = true); decide)
    · rintro rfl; exact absurd k (by show ¬ (false = true); decide)
  rw [h.2.2.1 a hk.1 hk.2], fun a i _ => by unfold mB; rw [h.2.2.2]⟩
/-- the Model holds what has been told so far -/
def mSt (s : ST) (tot : Nat) (z : MS) : Prop := mNs (tK s) (tNm s) z ∧ (∀ f, f < kF (tK s) → mA z 41 f = nI (kWo (tK s) f)) ∧ (∀ p, p < kP (tK s) → mA z 42 p = nI (kCa (tK s) p)) ∧ (∀ p, p < 8 → mA z 43 p = nI (tR s p) ∧ mA z 44 p = nI (tW s p) ∧ mA z 45 p = nI (tM s p) - 1) ∧ (∀ i, i < 3 → mA z 46 i = nI (kSe (tK s) i)) ∧
  (∀ i, i < 3 → (kTe (tK s) i = none ∧ mA z 47 i = -1) ∨ ∃ (c : List Int32) (o : Nat), kTe (tK s) i = some c ∧ o + c.length ≤ tot ∧ mA z 47 i = nI o ∧ mA z 48 i = nI (o + c.length) ∧ ∀ j, j < c.length → mA z 49 (o + j) = c.getD j 0) ∧ mI z 50 = nI tot
theorem mSt.of {s : ST} {tot : Nat} {z z' : MS} (h : mSt s tot z) (hi : mI z' 50 = mI z 50) (ha : ∀ a, a = 39 ∨ a = 41 ∨ a = 42 ∨ a = 43 ∨ a = 44 ∨ a = 45 ∨ a = 46 ∨ a = 47 ∨ a = 48 ∨ a = 49 → mA z' a = mA z a) (hb : mB z' 40 = mB z 40) : mSt s tot z' := by
  unfold mSt mNs
  rw [hi, ha 39 (by decide), ha 41 (by decide), ha 42 (by decide), ha 43 (by decide), ha 44 (by decide), ha 45 (by decide), ha 46 (by decide), ha 47 (by decide), ha 48 (by decide), ha 49 (by decide), hb]
  exact h
theorem mSt.rn {s : ST} {tot : Nat} {z z' : MS} (h : mSt s tot z) (hr : mRn z z') : mSt s tot z' :=
  h.of (hr.1 50 (by decide) (by decide) (by decide) (by decide) (by decide)) (fun a _ => by unfold mA; rw [hr.2]) (by unfold mB; rw [hr.2])
theorem mSt.qf {s : ST} {tot : Nat} {z z' : MS} (h : mSt s tot z) (hr : mQf z z') : mSt s tot z' :=
  h.of (hr.1 50 (by decide) (by decide) (by decide) (by decide) (by decide) (by decide) (by decide) (by decide)) (fun a ha => hr.2.2.1 a (by omega) (by omega)) (by unfold mB; rw [hr.2.2.2])
section RO
variable {n : Nat} {b : Nat → Nat}
def rAsk (n : Nat) (b : Nat → Nat) (W : List Nat) (i : Nat) : RS Unit := if hB n b (sSk n b i) W = true then .inr ((), sWe n b (sSk n b i)) else .inl (1, sSk n b i)
theorem m_asks_r {w : Nat} {W : List Nat} (hW : mW w = W.map nI) (hN : mN w = W.length) (h256 : ∀ x, x ∈ W → x < 256) {a : Nat} {z : MS} (h : mAt n b a z) (h5 : mI z 5 = 0) :
    ∃ z', m_asks w z = some z' ∧ mRn z z' ∧ match rAsk n b W a with
      | .inl g => flt g z'
      | .inr (_, e) => mAt n b e z' ∧ mI z' 5 = 0 := by
  unfold rAsk
  rw [m_asks_v hW hN h256 h h5]
  cases c : hB n b (sSk n b a) W with
  | true =>
    obtain ⟨-, -, -, -, -, w1, w2⟩ := hB_t c
    rw [if_pos rfl, if_pos rfl]
    exact ⟨_, rfl, (mRd.ed z _).rn, h.ed w2 (pv_we w1), by unfold mEd; rw [mI_ne _ (by decide), mI_ne _ (by decide)]; exact h5⟩
  | false =>
    rw [if_neg (by decide), if_neg (by decide)]
    exact ⟨_, rfl, ((mRd.int z (k := 2) (by decide) _).tr (mRd.flt _ _ _)).rn, flt_of _ (by decide) _⟩
theorem m_number_f {z : MS} (h : ¬ mI z 5 = 0) (lo hi : Int32) : m_number lo hi z = some (0, z) := by
  unfold m_number
  rw [if_neg h]
theorem m_number_r {a : Nat} {z : MS} (h : mAt n b a z) (h5 : mI z 5 = 0) {lo hi : Nat} (hlo : lo < 10000) (hhi : hi < 10000) :
    ∃ r z', m_number (nI lo) (nI hi) z = some (r, z') ∧ mRn z z' ∧ match rNum n b lo hi a with
      | .inl g => flt g z'
      | .inr (v, e) => r = nI v ∧ mAt n b e z' ∧ mI z' 5 = 0 := by
  have N := m_number_v h h5 hlo hhi
  unfold rNum
  cases q : rNumJ n b lo hi (sSk n b a) with
  | inl g =>
    rw [q] at N
    obtain ⟨r, z', e1, e2, e3⟩ := N
    exact ⟨r, z', e1, e3.rn, e2⟩
  | inr p =>
    obtain ⟨v, e⟩ := p
    rw [q] at N
    obtain ⟨-, -, -, r1, r2, r3, -⟩ := rNumJ_r q
    exact ⟨_, _, N, (mRd.ed z _).rn, rfl, h.ed r3 (by rw [r1]; exact pv_de (by omega)), by unfold mEd; rw [mI_ne _ (by decide), mI_ne _ (by decide)]; exact h5⟩
/-- what a statement leaves -/
def sPo (n : Nat) (b : Nat → Nat) (z0 : MS) (R : RS ST) (z' : MS) : Prop := mSf z0 z' ∧ match R with
  | .inl g => flt g z'
  | .inr (s, e) => mAt n b e z' ∧ mI z' 5 = 0 ∧ ∃ tot, mSt s tot z' ∧ tot ≤ e
theorem m_isFull_v {z : MS} (h5 : mI z 5 = 0) {kd c : Nat} (hk : kd < 2) (hc : mA z 39 kd = nI c) (h8 : c ≤ 8) (p : Nat) : m_isFull (nI kd) 8 (nI p) z = if c = 8 then some (true, mFlt z 5 p) else some (false, z) := by
  have e8 : (nI c = (8 : Int32)) ↔ c = 8 := nI_eq (b := 8) (by omega) (by decide)
  unfold m_isFull
  rw [jn_s, if_pos h5, ck_t (inb_nI (by show _ < 4; omega) (by decide)), nI_c (show kd < 2 ^ 31 by omega), hc]
  by_cases c8 : c = 8
  · rw [if_pos (e8.mpr c8), if_pos c8, show (5 : Int32) = nI 5 from rfl, m_fail_v h5, bnv_s]
    show (if mI (mFlt z 5 p) 5 = 0 then _ else _) = _
    rw [if_neg (flt_of z (k := 5) (by decide) p).ne]
  · rw [if_neg (fun g => c8 (e8.mp g)), if_neg c8]
    show (if mI z 5 = 0 then _ else _) = _
    rw [if_pos h5]
def wWorth : List Nat := [119, 111, 114, 116, 104]
def wCalm : List Nat := [99, 97, 108, 109]
def rFactS (n : Nat) (b : Nat → Nat) (s : ST) (j e : Nat) : RS ST := if kF (tK s) = 8 then .inl (5, j) else sbd (rNewJ n b (tK s) (tNm s) (sSk n b e)) fun l e1 => sbd (rAsk n b wWorth e1) fun _ e2 => sbd (rNum n b 1 9 e2) fun x e3 => .inr (sAddF s l.1 x, e3)
def rPersS (n : Nat) (b : Nat → Nat) (s : ST) (j e : Nat) : RS ST := if kP (tK s) = 8 then .inl (5, j) else sbd (rNewJ n b (tK s) (tNm s) (sSk n b e)) fun l e1 => sbd (rAsk n b wCalm e1) fun _ e2 => sbd (rNum n b 0 99 e2) fun x e3 => .inr (sAddP s l.1 x, e3)
theorem rNewJ_r {k : SK} {nm : Nat → Nat → List Nat} {j : Nat} {v : List Nat × Nat} {e : Nat} (h : rNewJ n b k nm j = .inr (v, e)) : nmOk v.1 ∧ j < e ∧ e ≤ n := by
  obtain ⟨w, e1, q1, q2⟩ := sbd_inr h
  obtain ⟨w1, w2, w3, w4, w5⟩ := rNameJ_r q1
  have q2 : (if fnd (nm 0) w.1 (kF k) 0 = none ∧ fnd (nm 1) w.1 (kP k) 0 = none then (.inr (w, e1) : RS (List Nat × Nat)) else .inl (3, w.2)) = .inr (v, e) := q2
  by_cases c : fnd (nm 0) w.1 (kF k) 0 = none ∧ fnd (nm 1) w.1 (kP k) 0 = none
  · rw [if_pos c] at q2
    cases q2
    exact ⟨w1, w3, w4⟩
  · rw [if_neg c] at q2; cases q2
theorem rAsk_r {W : List Nat} {i : Nat} {u : Unit} {e : Nat} (h : rAsk n b W i = .inr (u, e)) : i < e ∧ e ≤ n := by
  unfold rAsk at h
  by_cases c : hB n b (sSk n b i) W = true
  · rw [if_pos c] at h
    obtain ⟨-, -, -, -, -, w1, w2⟩ := hB_t c
    have := sSk_ge n b i
    cases h
    omega
  · rw [if_neg c] at h; cases h
theorem rNum_r {lo hi i v e : Nat} (h : rNum n b lo hi i = .inr (v, e)) : i < e ∧ e ≤ n ∧ lo ≤ v ∧ v ≤ hi := by
  have := rNumJ_r h
  have := sSk_ge n b i
  omega
theorem m_factTold_v {s : ST} {tot a j : Nat} {z0 z : MS} (hs : stOk s) (h : mAt n b a z) (h5 : mI z 5 = 0) (hS : mSt s tot z) (ht : tot ≤ a) (hf : mSf z0 z) :
    ∃ z', m_factTold (nI j) z = some z' ∧ sPo n b z0 (rFactS n b s j a) z' := by
  have h8 := hs.1.1
  unfold m_factTold rFactS
  rw [show m_isFull 0 8 (nI j) z = _ from m_isFull_v h5 (kd := 0) (by decide) hS.1.1 h8 j]
  by_cases c8 : kF (tK s) = 8
  · rw [if_pos c8, if_pos c8, bnd_s, if_neg (by decide)]
    exact ⟨_, rfl, hf.tr (mRd.flt _ _ _).rn.sf, flt_of _ (by decide) _⟩
  rw [if_neg c8, if_neg c8, bnd_s, if_pos (by decide)]
  obtain ⟨r1, z2, e1, n1, M1⟩ := m_newName_v h h5 hS.1
  rw [e1, bnd_s]
  -- after a fault nothing more happens
  have dead : ∀ (g : Nat × Nat) (y : MS), flt g y → mSf z0 y → ∃ z', (bnv (m_asks 11 y) fun z3 => bnd (m_number 1 9 z3) fun r3 z4 =>
      if (mI z4 5) = 0 then
        ck (inb (mA z4 39 (Int32.toNatClampNeg 0)) (mN 40)) <|
        nm (wB z4 40 (Int32.toNatClampNeg (mA z4 39 (Int32.toNatClampNeg 0))) r1) fun z5 =>
        ck (inb (mA z5 39 (Int32.toNatClampNeg 0)) (mN 41)) <|
        nm (wA z5 41 (Int32.toNatClampNeg (mA z5 39 (Int32.toNatClampNeg 0))) r3) fun z6 =>
        nm (wA z6 39 (Int32.toNatClampNeg 0) ((mA z6 39 (Int32.toNatClampNeg 0)) + 1)) fun z7 =>
        some z7
      else
        some z4) = some z' ∧ mSf z0 z' ∧ flt g z' := by
    intro g y hg hy
    rw [m_asks_f hg.ne, bnv_s, m_number_f hg.ne, bnd_s, if_neg hg.ne]
    exact ⟨y, rfl, hy, hg⟩
  have dead2 : ∀ (g : Nat × Nat) (y : MS), flt g y → mSf z0 y → ∃ z', (bnd (m_number 1 9 y) fun r3 z4 =>
      if (mI z4 5) = 0 then
        ck (inb (mA z4 39 (Int32.toNatClampNeg 0)) (mN 40)) <|
        nm (wB z4 40 (Int32.toNatClampNeg (mA z4 39 (Int32.toNatClampNeg 0))) r1) fun z5 =>
        ck (inb (mA z5 39 (Int32.toNatClampNeg 0)) (mN 41)) <|
        nm (wA z5 41 (Int32.toNatClampNeg (mA z5 39 (Int32.toNatClampNeg 0))) r3) fun z6 =>
        nm (wA z6 39 (Int32.toNatClampNeg 0) ((mA z6 39 (Int32.toNatClampNeg 0)) + 1)) fun z7 =>
        some z7
      else
        some z4) = some z' ∧ mSf z0 z' ∧ flt g z' := by
    intro g y hg hy
    rw [m_number_f hg.ne, bnd_s, if_neg hg.ne]
    exact ⟨y, rfl, hy, hg⟩
  cases q1 : rNewJ n b (tK s) (tNm s) (sSk n b a) with
  | inl g =>
    rw [q1] at M1
    exact dead g z2 M1 (hf.tr n1.sf)
  | inr p =>
  obtain ⟨l, ea⟩ := p
  rw [q1] at M1
  obtain ⟨m1, m2, m3⟩ := M1
  obtain ⟨l1, l2, l3⟩ := rNewJ_r q1
  rw [sbd_r]
  obtain ⟨z3, e3, n3, M3⟩ := m_asks_r (w := 11) (W := wWorth) rfl rfl (by decide) m2 m3
  rw [e3, bnv_s]
  cases q2 : rAsk n b wWorth ea with
  | inl g =>
    rw [q2] at M3
    exact dead2 g z3 M3 (hf.tr (n1.sf.tr n3.sf))
  | inr p =>
  obtain ⟨u, eb⟩ := p
  rw [q2] at M3
  obtain ⟨m4, m5⟩ := M3
  have g2 := rAsk_r q2
  rw [sbd_r]
  obtain ⟨r3, z4, e4, n4, M4⟩ := m_number_r m4 m5 (lo := 1) (hi := 9) (by decide) (by decide)
  rw [show m_number 1 9 z3 = _ from e4, bnd_s]
  cases q3 : rNum n b 1 9 eb with
  | inl g =>
    rw [q3] at M4
    have M4 : flt g z4 := M4
    rw [if_neg M4.ne]
    exact ⟨z4, rfl, hf.tr (n1.sf.tr (n3.sf.tr n4.sf)), M4⟩
  | inr p =>
  obtain ⟨x, ec⟩ := p
  rw [q3] at M4
  obtain ⟨m6, m7, m8⟩ := M4
  obtain ⟨g3, g4, g5, g6⟩ := rNum_r q3
  have S4 := hS.rn (n1.tr (n3.tr n4))
  have hj := sSk_ge n b a
  have c39 : mA z4 39 (0 : Int32).toNatClampNeg = nI (kF (tK s)) := S4.1.1
  have i1 : ∀ m, 8 ≤ m → m < 2 ^ 31 → inb (nI (kF (tK s))) m = true := fun m q1 q2 => inb_nI (by omega) q2
  have F8 : kF (tK s) < 8 := by omega
  rw [if_pos m8, c39, ck_t (i1 _ (by decide) (by decide)), nm_s]
  have c39b : ∀ v, mA (wB z4 40 (nI (kF (tK s))).toNatClampNeg v) 39 (0 : Int32).toNatClampNeg = nI (kF (tK s)) := fun v => c39
  rw [c39b, ck_t (i1 _ (by decide) (by decide)), nm_s, nm_s, nI_c (show kF (tK s) < 2 ^ 31 by omega), show (0 : Int32).toNatClampNeg = 0 from by decide]
  rw [show mA (wA (wB z4 40 (kF (tK s)) r1) 41 (kF (tK s)) r3) 39 0 = nI (kF (tK s)) from by rw [mA_g, if_neg (by omega)]; exact c39, nI_1, m1, m6]
  refine ⟨_, rfl, ?_, ?_, ?_, tot, ?_, by omega⟩
  · refine hf.tr (n1.sf.tr (n3.sf.tr (n4.sf.tr ((mSf.brr _ ?_ _).tr ((mSf.arr _ ?_ _).tr (mSf.arr _ (by decide) _))))))
    · show decide (16 ≤ kF (tK s)) = false
      exact decide_eq_false (by omega)
    · show decide (8 ≤ kF (tK s)) = false
      exact decide_eq_false (by omega)
  · exact m7.oth (by funext i; show mA (wA (wA (wB z4 40 _ _) 41 _ _) 39 _ _) 0 i = _; rw [mA_g, if_neg (by omega), mA_g, if_neg (by omega)]; rfl) (fun _ _ => rfl)
  · exact m8
  · obtain ⟨⟨s1, s2, s3, s4, s5⟩, s6, s7, s8, s9, s10, s11⟩ := S4
    refine ⟨⟨?_, ?_, F8, s4, fun kd i hk hi => ?_⟩, fun f hf => ?_, fun p hp => ?_, fun p hp => ?_, fun i hi => ?_, fun i hi => ?_, s11⟩
    · rw [mA_g, if_pos ⟨rfl, rfl⟩]; rfl
    · rw [mA_g, if_neg (by omega), mA_g, if_neg (by omega)]; exact s2
    · show nmOk (if kd = 0 ∧ i = kF (tK s) then l.1 else tNm s kd i) ∧ mB (wB z4 40 (kF (tK s)) (lN (nmV l.1))) 40 (8 * kd + i) = lN (nmV (if kd = 0 ∧ i = kF (tK s) then l.1 else tNm s kd i))
      rw [mB_g]
      by_cases c : kd = 0 ∧ i = kF (tK s)
      · rw [if_pos c, if_pos ⟨rfl, by omega⟩]
        exact ⟨l1, rfl⟩
      · have hi : i < if kd = 0 then kF (tK s) + 1 else kP (tK s) := hi
        have hlt : i < kN (tK s) kd ∧ ¬ (8 * kd + i = kF (tK s)) := by
          unfold kN
          by_cases k0 : kd = 0
          · rw [if_pos k0] at hi ⊢
            have : ¬ i = kF (tK s) := fun e => c ⟨k0, e⟩
            omega
          · rw [if_neg k0] at hi ⊢
            omega
        rw [if_neg c, if_neg (fun g => hlt.2 g.2)]
        exact s5 kd i hk hlt.1
    · show mA (wA (wA _ 41 (kF (tK s)) (nI x)) 39 0 _) 41 f = nI (va_up (tK s).2.1 (kF (tK s)) x f)
      rw [mA_g, if_neg (by omega), mA_g, vu_at]
      have hf : f < kF (tK s) + 1 := hf
      by_cases c : f = kF (tK s)
      · rw [if_pos c, if_pos ⟨rfl, c⟩]
      · rw [if_neg c, if_neg (fun g => c g.2)]
        exact s6 f (by omega)
    · rw [mA_g, if_neg (by omega), mA_g, if_neg (by omega)]; exact s7 p hp
    · rw [mA_g, if_neg (by omega), mA_g, if_neg (by omega), mA_g, if_neg (by omega), mA_g, if_neg (by omega), mA_g, if_neg (by omega), mA_g, if_neg (by omega)]; exact s8 p hp
    · rw [mA_g, if_neg (by omega), mA_g, if_neg (by omega)]; exact s9 i hi
    · have a47 : ∀ a k, a ≠ 39 → a ≠ 41 → mA (wA (wA (wB z4 40 (kF (tK s)) (lN (nmV l.1))) 41 (kF (tK s)) (nI x)) 39 0 (nI (kF (tK s) + 1))) a k = mA z4 a k := by
        intro a k h1 h2
        rw [mA_g, if_neg (by omega), mA_g, if_neg (by omega)]
        rfl
      rcases s10 i hi with ⟨g1, g2⟩ | ⟨c, o, g1, g2, g3, g4, g5⟩
      · exact Or.inl ⟨g1, by rw [a47 _ _ (by decide) (by decide)]; exact g2⟩
      · exact Or.inr ⟨c, o, g1, g2, by rw [a47 _ _ (by decide) (by decide)]; exact g3, by rw [a47 _ _ (by decide) (by decide)]; exact g4, fun j hj => by rw [a47 _ _ (by decide) (by decide)]; exact g5 j hj⟩
end RO
