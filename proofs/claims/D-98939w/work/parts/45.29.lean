/-! PART 29: plain: the Model is told a statement, all statements -/
set_option maxRecDepth 100000
section RR
variable {n : Nat} {b : Nat → Nat}
def wFact : List Nat := [102, 97, 99, 116]
def wPers : List Nat := [112, 101, 114, 115, 111, 110]
def wKnow : List Nat := [107, 110, 111, 119, 115]
def wErrs : List Nat := [101, 114, 114, 115]
def wTaug : List Nat := [116, 97, 117, 103, 104, 116]
def wTake : List Nat := [116, 97, 107, 101, 115]
def wGarb : List Nat := [103, 97, 114, 98, 108, 101]
def wSits : List Nat := [115, 105, 116, 115]
def wPass : List Nat := [112, 97, 115, 115]
def wTrie : List Nat := [116, 114, 105, 101, 115]
def wIll : List Nat := [105, 108, 108]
def rSetS (n : Nat) (b : Nat → Nat) (s : ST) (i hi e : Nat) : RS ST := sbd (rNum n b 0 hi e) fun x e1 => .inr (sSet' s i x, e1)
def rStmW (n : Nat) (b : Nat → Nat) (s : ST) (w : List Nat) (j e : Nat) : RS ST :=
  if w = wFact then rFactS n b s j e else if w = wPers then rPersS n b s j e else if w = wKnow then rBelS n b s true e else if w = wErrs then rBelS n b s false e
  else if w = wTaug then rTauS n b s e else if w = wTake then rTstS n b s 0 j e else if w = wGarb then rTstS n b s 1 j e else if w = wSits then rTstS n b s 2 j e
  else if w = wPass then rSetS n b s 0 99 e else if w = wTrie then rSetS n b s 1 9 e else if w = wIll then rSetS n b s 2 100 e else .inl (1, j)
def rStmt (n : Nat) (b : Nat → Nat) (s : ST) (j : Nat) : RS ST := sbd (rWordJ n b j) fun v e => rStmW n b s v.1 j e
def rSt1 (n : Nat) (b : Nat → Nat) (s : ST) (cnt j : Nat) : RS ST := if cnt = 80 then .inl (5, j) else sbd (rStmt n b s j) fun s' e => sbd (rMust n b 59 e) fun _ e2 => .inr (s', e2)
theorem mSf.f51 {z0 z : MS} {u : Int32} (h : mSf (wI z0 51 u) z) (v : Int32) : mSf (wI z0 51 v) (wI z 51 v) := by
  refine ⟨fun a ha => ?_, h.2.1, h.2.2.1, h.2.2.2⟩
  by_cases c : a = 51
  · rw [c, mI_eq, mI_eq]
  · rw [mI_ne _ c, mI_ne _ c, h.1 a ha, mI_ne _ c]
/-- the sign behind a statement -/
theorem st_end {z0 z : MS} {u : Int32} {R : RS ST} (h : sPb n b (wI z0 51 u) R z) : ∃ z', (bnv (m_asksSign 59 z) fun z3 => nm (wI z3 51 ((mI z3 51) + 1)) fun z4 => some z4) = some z' ∧ sPo n b (wI z0 51 (u + 1)) (sbd R fun s' e => sbd (rMust n b 59 e) fun _ e2 => .inr (s', e2)) z' ∧ mI z' 51 = u + 1 := by
  obtain ⟨hf, hR⟩ := h
  have h51 : mI z 51 = u := by rw [hf.1 51 (by decide), mI_eq]
  have done : ∀ (y : MS), mSf z y → (bnv (some y) fun z3 => nm (wI z3 51 ((mI z3 51) + 1)) fun z4 => some z4) = some (wI y 51 (u + 1)) ∧ mSf (wI z0 51 (u + 1)) (wI y 51 (u + 1)) ∧ mI (wI y 51 (u + 1)) 51 = u + 1 := by
    intro y hy
    have : mI y 51 = u := by rw [hy.1 51 (by decide)]; exact h51
    rw [bnv_s, nm_s, this]
    exact ⟨rfl, (hf.tr hy).f51 _, mI_eq _ _ _⟩
  have kf : ∀ (g : Nat × Nat) (y : MS), flt g y → flt g (wI y 51 (u + 1)) := fun g y hg => ⟨by rw [mI_ne _ (by decide)]; exact hg.1, by rw [mI_ne _ (by decide)]; exact hg.2.1, hg.2.2⟩
  cases R with
  | inl g =>
    rw [sbd_l]
    rcases hR with hR | ⟨r1, r2, r3, r4, r5⟩
    · rw [m_asksSign_f hR.ne]
      obtain ⟨d1, d2, d3⟩ := done z (mSf.rf z)
      exact ⟨_, d1, ⟨d2, kf g z hR⟩, d3⟩
    · have ha := m_asksSign_v r1 r2 (s := 59) (by decide)
      have c : ¬ rB n b (sSk n b g.2) = 59 := by
        rw [r5]
        intro e
        rw [e] at r4
        exact absurd r4 (by decide)
      rw [if_neg c, r5] at ha
      rw [show m_asksSign 59 z = _ from ha]
      obtain ⟨d1, d2, d3⟩ := done (mFlt (wI z 2 (nI g.2)) 1 g.2) ((mSf.int _ rfl _).tr (mRd.flt _ _ _).rn.sf)
      refine ⟨_, d1, ⟨d2, kf g _ ?_⟩, d3⟩
      have := flt_of (wI z 2 (nI g.2)) (k := 1) (by decide) g.2
      rw [← r3] at this ⊢
      exact this
  | inr p =>
    obtain ⟨s, e⟩ := p
    obtain ⟨r1, r2, tot, r3, r4⟩ := hR
    have ha := m_asksSign_v r1 r2 (s := 59) (by decide)
    rw [show m_asksSign 59 z = _ from ha, sbd_r]
    unfold rMust
    have hj := sSk_ge n b e
    by_cases c : rB n b (sSk n b e) = 59
    · rw [if_pos c, if_pos c, sbd_r]
      obtain ⟨b1, b2⟩ := rB_lt c (by decide)
      obtain ⟨d1, d2, d3⟩ := done (wI z 2 (nI (sSk n b e + 1))) (mSf.int _ rfl _)
      refine ⟨_, d1, ⟨d2, ?_, ?_, tot, ?_, by omega⟩, d3⟩
      · exact (r1.sg b1 hj (by rw [b2]; decide)).oth rfl (fun a ha => mI_ne _ (by omega) _)
      · rw [mI_ne _ (by decide), mI_ne _ (by decide)]; exact r2
      · exact r3.of (by rw [mI_ne _ (by decide), mI_ne _ (by decide)]) (fun _ _ => rfl) rfl
    · rw [if_neg c, if_neg c, sbd_l]
      obtain ⟨d1, d2, d3⟩ := done (mFlt (wI z 2 (nI (sSk n b e))) 1 (sSk n b e)) ((mSf.int _ rfl _).tr (mRd.flt _ _ _).rn.sf)
      exact ⟨_, d1, ⟨d2, kf _ _ (flt_of _ (by decide) _)⟩, d3⟩
theorem m_set_v {s : ST} {tot a i hi : Nat} {z0 z : MS} (hi3 : i < 3) (hhi : hi < 10000) (h : mAt n b a z) (h5 : mI z 5 = 0) (hS : mSt s tot z) (ht : tot ≤ a) (hf : mSf z0 z) :
    ∃ r z1, m_number 0 (nI hi) z = some (r, z1) ∧ sPb n b z0 (rSetS n b s i hi a) (wA z1 46 i r) := by
  obtain ⟨r, z1, e1, n1, M1⟩ := m_number_r h h5 (lo := 0) (hi := hi) (by decide) hhi
  refine ⟨r, z1, e1, ?_⟩
  unfold rSetS
  have f1 : mSf z0 (wA z1 46 i r) := hf.tr (n1.sf.tr (mSf.arr _ (by show decide (3 ≤ i) = false; exact decide_eq_false (by omega)) _))
  cases q : rNum n b 0 hi a with
  | inl g =>
    rw [q] at M1
    exact ⟨f1, Or.inl M1⟩
  | inr p =>
    obtain ⟨x, e⟩ := p
    rw [q] at M1
    obtain ⟨m1, m2, m3⟩ := M1
    have g := rNum_r q
    have S1 := hS.rn n1
    refine ⟨f1, m2.oth (by funext k; rw [mA_g, if_neg (by omega)]) (fun _ _ => rfl), m3, tot, ?_, by omega⟩
    have aa : ∀ a k, a ≠ 46 → mA (wA z1 46 i r) a k = mA z1 a k := by
      intro a k h1
      rw [mA_g, if_neg (fun g => h1 g.1)]
    obtain ⟨⟨s1, s2, s3, s4, s5⟩, s6, s7, s8, s9, s10, s11⟩ := S1
    refine ⟨⟨by rw [aa _ _ (by decide)]; exact s1, by rw [aa _ _ (by decide)]; exact s2, s3, s4, s5⟩, fun f hf => by rw [aa _ _ (by decide)]; exact s6 f hf, fun f hf => by rw [aa _ _ (by decide)]; exact s7 f hf, fun f hf => by rw [aa _ _ (by decide), aa _ _ (by decide), aa _ _ (by decide)]; exact s8 f hf, fun k hk => ?_, fun k hk => ?_, s11⟩
    · have et : kSe (tK (sSet' s i x)) k = if k = i then x else kSe (tK s) k := vu_at _ _ _ _
      rw [et, mA_g]
      by_cases e : k = i
      · rw [if_pos ⟨rfl, e⟩, if_pos e, m1]
      · rw [if_neg (fun g => e g.2), if_neg e]; exact s9 k hk
    · rcases s10 k hk with ⟨v1, v2⟩ | ⟨c, o, v1, v2, v3, v4, v5⟩
      · exact Or.inl ⟨v1, by rw [aa _ _ (by decide)]; exact v2⟩
      · exact Or.inr ⟨c, o, v1, v2, by rw [aa _ _ (by decide)]; exact v3, by rw [aa _ _ (by decide)]; exact v4, fun j hj => by rw [aa _ _ (by decide)]; exact v5 j hj⟩
theorem m_statementTold_v {s : ST} {tot j cnt : Nat} {z0 z : MS} (hs : stOk s) (hc : cnt ≤ 80) (h : mAt n b j z) (hj : sSk n b j = j) (h5 : mI z 5 = 0) (hS : mSt s tot z) (ht : tot ≤ j) (hf : mSf (wI z0 51 (nI cnt)) z) :
    ∃ z' u, m_statementTold z = some z' ∧ sPo n b (wI z0 51 u) (rSt1 n b s cnt j) z' ∧ (cnt ≠ 80 → u = nI (cnt + 1)) := by
  have h51 : mI z 51 = nI cnt := by rw [hf.1 51 (by decide), mI_eq]
  have e80 : (nI cnt = (80 : Int32)) ↔ cnt = 80 := nI_eq (b := 80) (by omega) (by decide)
  unfold m_statementTold rSt1
  rw [h51]
  by_cases c80 : cnt = 80
  · rw [if_pos (e80.mpr c80), if_pos c80, h.2.1, show (5 : Int32) = nI 5 from rfl, m_fail_v h5, bnv_s]
    exact ⟨_, nI cnt, rfl, ⟨hf.tr (mRd.flt _ _ _).rn.sf, flt_of _ (by decide) _⟩, fun g => absurd c80 g⟩
  rw [if_neg (fun g => c80 (e80.mp g)), if_neg c80]
  simp only [jn_s]
  have zz : wI z 2 (nI j) = z := by rw [← h.2.1, wI_self]
  have tk : ∀ {w : Nat} {W : List Nat}, mW w = W.map nI → mN w = W.length → (∀ x, x ∈ W → x < 256) → m_takes w z = some (hB n b j W, if hB n b j W = true then mEd z (sWe n b j) else z) := by
    intro w W g1 g2 g3
    have := m_takes_v g1 g2 g3 h h5
    rw [hj, zz] at this
    exact this
  have t10 := tk (w := 10) (W := wFact) rfl rfl (by decide)
  have t12 := tk (w := 12) (W := wPers) rfl rfl (by decide)
  have t14 := tk (w := 14) (W := wKnow) rfl rfl (by decide)
  have t15 := tk (w := 15) (W := wErrs) rfl rfl (by decide)
  have t16 := tk (w := 16) (W := wTaug) rfl rfl (by decide)
  have t18 := tk (w := 18) (W := wTake) rfl rfl (by decide)
  have t19 := tk (w := 19) (W := wGarb) rfl rfl (by decide)
  have t20 := tk (w := 20) (W := wSits) rfl rfl (by decide)
  have t21 := tk (w := 21) (W := wPass) rfl rfl (by decide)
  have t22 := tk (w := 22) (W := wTrie) rfl rfl (by decide)
  clear tk
  have fin : ∀ (R : RS ST) (z1 : MS), rStmt n b s j = R → sPb n b (wI z0 51 (nI cnt)) R z1 → ∃ z' u, (bnv (m_asksSign 59 z1) fun z3 => nm (wI z3 51 ((mI z3 51) + 1)) fun z4 => some z4) = some z' ∧ sPo n b (wI z0 51 u) (sbd (rStmt n b s j) fun s' e => sbd (rMust n b 59 e) fun _ e2 => .inr (s', e2)) z' ∧ (cnt ≠ 80 → u = nI (cnt + 1)) := by
    intro R z1 hR hp
    obtain ⟨z', e1, e2, e3⟩ := st_end hp
    rw [hR]
    exact ⟨z', nI cnt + 1, e1, e2, fun _ => nI_1 cnt⟩
  -- a word W at j
  have wd : ∀ W, hB n b j W = true → rStmt n b s j = rStmW n b s W j (sWe n b j) ∧ mAt n b (sWe n b j) (mEd z (sWe n b j)) ∧ mI (mEd z (sWe n b j)) 5 = 0 ∧ mSt s tot (mEd z (sWe n b j)) ∧ tot ≤ sWe n b j ∧ mSf (wI z0 51 (nI cnt)) (mEd z (sWe n b j)) := by
    intro W hW
    obtain ⟨v, v1, v2, -, -, v3, v4⟩ := hB_t hW
    refine ⟨?_, h.ed v4 (pv_we v3), ?_, hS.rn (mRd.ed z _).rn, by omega, hf.tr (mRd.ed z _).rn.sf⟩
    · unfold rStmt
      rw [v1, sbd_r, v2]
    · unfold mEd
      rw [mI_ne _ (by decide), mI_ne _ (by decide)]; exact h5
  have nw : ∀ W W', hB n b j W = true → hB n b j W' = false → ¬ W = W' := by
    intro W W' g1 g2 e
    rw [e, g2] at g1
    cases g1
  rw [t10, bnd_s]
  cases c10 : hB n b j wFact with
  | true =>
    obtain ⟨w0, w1, w2, w3, w4, w5⟩ := wd _ c10
    rw [if_neg (show ¬ bI true = 0 by decide), if_pos rfl, h.2.1]
    obtain ⟨z1, e1, p1⟩ := m_factTold_v (j := j) hs w1 w2 w3 w4 w5
    rw [e1, bnv_s]
    exact fin _ z1 (by rw [w0]; unfold rStmW; rw [if_pos rfl]) p1.pb
  | false =>
  rw [if_pos (show bI false = 0 by decide), if_neg (show ¬ (false = true) by decide), t12, bnd_s]
  cases c12 : hB n b j wPers with
  | true =>
    obtain ⟨w0, w1, w2, w3, w4, w5⟩ := wd _ c12
    rw [if_neg (show ¬ bI true = 0 by decide), if_pos rfl, h.2.1]
    obtain ⟨z1, e1, p1⟩ := m_personTold_v (j := j) hs w1 w2 w3 w4 w5
    rw [e1, bnv_s]
    exact fin _ z1 (by rw [w0]; unfold rStmW; rw [if_neg (nw _ _ c12 c10), if_pos rfl]) p1.pb
  | false =>
  rw [if_pos (show bI false = 0 by decide), if_neg (show ¬ (false = true) by decide), t14, bnd_s]
  cases c14 : hB n b j wKnow with
  | true =>
    obtain ⟨w0, w1, w2, w3, w4, w5⟩ := wd _ c14
    rw [if_neg (show ¬ bI true = 0 by decide), if_pos rfl]
    obtain ⟨z1, e1, p1⟩ := m_beliefTold_v true hs w1 w2 w3 w4 w5
    rw [e1, bnv_s]
    exact fin _ z1 (by rw [w0]; unfold rStmW; rw [if_neg (nw _ _ c14 c10), if_neg (nw _ _ c14 c12), if_pos rfl]) p1.pb
  | false =>
  rw [if_pos (show bI false = 0 by decide), if_neg (show ¬ (false = true) by decide), t15, bnd_s]
  cases c15 : hB n b j wErrs with
  | true =>
    obtain ⟨w0, w1, w2, w3, w4, w5⟩ := wd _ c15
    rw [if_neg (show ¬ bI true = 0 by decide), if_pos rfl]
    obtain ⟨z1, e1, p1⟩ := m_beliefTold_v false hs w1 w2 w3 w4 w5
    rw [e1, bnv_s]
    exact fin _ z1 (by rw [w0]; unfold rStmW; rw [if_neg (nw _ _ c15 c10), if_neg (nw _ _ c15 c12), if_neg (nw _ _ c15 c14), if_pos rfl]) p1.pb
  | false =>
  rw [if_pos (show bI false = 0 by decide), if_neg (show ¬ (false = true) by decide), t16, bnd_s]
  cases c16 : hB n b j wTaug with
  | true =>
    obtain ⟨w0, w1, w2, w3, w4, w5⟩ := wd _ c16
    rw [if_neg (show ¬ bI true = 0 by decide), if_pos rfl]
    obtain ⟨z1, e1, p1⟩ := m_taughtTold_v hs w1 w2 w3 w4 w5
    rw [e1, bnv_s]
    exact fin _ z1 (by rw [w0]; unfold rStmW; rw [if_neg (nw _ _ c16 c10), if_neg (nw _ _ c16 c12), if_neg (nw _ _ c16 c14), if_neg (nw _ _ c16 c15), if_pos rfl]) p1.pb
  | false =>
  rw [if_pos (show bI false = 0 by decide), if_neg (show ¬ (false = true) by decide), t18, bnd_s]
  cases c18 : hB n b j wTake with
  | true =>
    obtain ⟨w0, w1, w2, w3, w4, w5⟩ := wd _ c18
    rw [if_neg (show ¬ bI true = 0 by decide), if_pos rfl, h.2.1]
    obtain ⟨z1, e1, p1⟩ := m_codesTold_v (i := 0) (j := j) (by decide) w1 w2 w3 w4 w5
    rw [show m_codesTold 0 (nI j) (mEd z (sWe n b j)) = _ from e1, bnv_s]
    exact fin _ z1 (by rw [w0]; unfold rStmW; rw [if_neg (nw _ _ c18 c10), if_neg (nw _ _ c18 c12), if_neg (nw _ _ c18 c14), if_neg (nw _ _ c18 c15), if_neg (nw _ _ c18 c16), if_pos rfl]) p1
  | false =>
  rw [if_pos (show bI false = 0 by decide), if_neg (show ¬ (false = true) by decide), t19, bnd_s]
  cases c19 : hB n b j wGarb with
  | true =>
    obtain ⟨w0, w1, w2, w3, w4, w5⟩ := wd _ c19
    rw [if_neg (show ¬ bI true = 0 by decide), if_pos rfl, h.2.1]
    obtain ⟨z1, e1, p1⟩ := m_codesTold_v (i := 1) (j := j) (by decide) w1 w2 w3 w4 w5
    rw [show m_codesTold 1 (nI j) (mEd z (sWe n b j)) = _ from e1, bnv_s]
    exact fin _ z1 (by rw [w0]; unfold rStmW; rw [if_neg (nw _ _ c19 c10), if_neg (nw _ _ c19 c12), if_neg (nw _ _ c19 c14), if_neg (nw _ _ c19 c15), if_neg (nw _ _ c19 c16), if_neg (nw _ _ c19 c18), if_pos rfl]) p1
  | false =>
  rw [if_pos (show bI false = 0 by decide), if_neg (show ¬ (false = true) by decide), t20, bnd_s]
  cases c20 : hB n b j wSits with
  | true =>
    obtain ⟨w0, w1, w2, w3, w4, w5⟩ := wd _ c20
    rw [if_neg (show ¬ bI true = 0 by decide), if_pos rfl, h.2.1]
    obtain ⟨z1, e1, p1⟩ := m_codesTold_v (i := 2) (j := j) (by decide) w1 w2 w3 w4 w5
    rw [show m_codesTold 2 (nI j) (mEd z (sWe n b j)) = _ from e1, bnv_s]
    exact fin _ z1 (by rw [w0]; unfold rStmW; rw [if_neg (nw _ _ c20 c10), if_neg (nw _ _ c20 c12), if_neg (nw _ _ c20 c14), if_neg (nw _ _ c20 c15), if_neg (nw _ _ c20 c16), if_neg (nw _ _ c20 c18), if_neg (nw _ _ c20 c19), if_pos rfl]) p1
  | false =>
  rw [if_pos (show bI false = 0 by decide), if_neg (show ¬ (false = true) by decide), t21, bnd_s]
  cases c21 : hB n b j wPass with
  | true =>
    obtain ⟨w0, w1, w2, w3, w4, w5⟩ := wd _ c21
    rw [if_neg (show ¬ bI true = 0 by decide), if_pos rfl]
    obtain ⟨r, z1, e1, p1⟩ := m_set_v (i := 0) (hi := 99) (by decide) (by decide) w1 w2 w3 w4 w5
    rw [show m_number 0 99 (mEd z (sWe n b j)) = _ from e1, bnd_s, nm_s, show (0 : Int32).toNatClampNeg = 0 from by decide]
    exact fin _ _ (by rw [w0]; unfold rStmW; rw [if_neg (nw _ _ c21 c10), if_neg (nw _ _ c21 c12), if_neg (nw _ _ c21 c14), if_neg (nw _ _ c21 c15), if_neg (nw _ _ c21 c16), if_neg (nw _ _ c21 c18), if_neg (nw _ _ c21 c19), if_neg (nw _ _ c21 c20), if_pos rfl]) p1
  | false =>
  rw [if_pos (show bI false = 0 by decide), if_neg (show ¬ (false = true) by decide), t22, bnd_s]
  cases c22 : hB n b j wTrie with
  | true =>
    obtain ⟨w0, w1, w2, w3, w4, w5⟩ := wd _ c22
    rw [if_neg (show ¬ bI true = 0 by decide), if_pos rfl]
    obtain ⟨r, z1, e1, p1⟩ := m_set_v (i := 1) (hi := 9) (by decide) (by decide) w1 w2 w3 w4 w5
    rw [show m_number 0 9 (mEd z (sWe n b j)) = _ from e1, bnd_s, nm_s, show (1 : Int32).toNatClampNeg = 1 from by decide]
    exact fin _ _ (by rw [w0]; unfold rStmW; rw [if_neg (nw _ _ c22 c10), if_neg (nw _ _ c22 c12), if_neg (nw _ _ c22 c14), if_neg (nw _ _ c22 c15), if_neg (nw _ _ c22 c16), if_neg (nw _ _ c22 c18), if_neg (nw _ _ c22 c19), if_neg (nw _ _ c22 c20), if_neg (nw _ _ c22 c21), if_pos rfl]) p1
  | false =>
  rw [if_pos (show bI false = 0 by decide), if_neg (show ¬ (false = true) by decide)]
  have a23 := m_asks_v (w := 23) (W := wIll) rfl rfl (by decide) h h5
  rw [hj, zz] at a23
  rw [a23, bnv_s]
  cases c23 : hB n b j wIll with
  | true =>
    obtain ⟨w0, w1, w2, w3, w4, w5⟩ := wd _ c23
    rw [if_pos rfl]
    obtain ⟨r, z1, e1, p1⟩ := m_set_v (i := 2) (hi := 100) (by decide) (by decide) w1 w2 w3 w4 w5
    rw [show m_number 0 100 (mEd z (sWe n b j)) = _ from e1, bnd_s, nm_s, show (2 : Int32).toNatClampNeg = 2 from by decide]
    exact fin _ _ (by rw [w0]; unfold rStmW; rw [if_neg (nw _ _ c23 c10), if_neg (nw _ _ c23 c12), if_neg (nw _ _ c23 c14), if_neg (nw _ _ c23 c15), if_neg (nw _ _ c23 c16), if_neg (nw _ _ c23 c18), if_neg (nw _ _ c23 c19), if_neg (nw _ _ c23 c20), if_neg (nw _ _ c23 c21), if_neg (nw _ _ c23 c22), if_pos rfl]) p1
  | false =>
    rw [if_neg (show ¬ (false = true) by decide)]
    have F := flt_of z (k := 1) (by decide) j
    rw [m_number_f F.ne, bnd_s, nm_s]
    refine fin (.inl (1, j)) _ ?_ ⟨hf.tr ((mRd.flt _ _ _).rn.sf.tr (mSf.arr _ (by decide) _)), Or.inl F⟩
    unfold rStmt
    cases qw : rWordJ n b j with
    | inl g => rw [sbd_l, (rWordJ_l qw).1]
    | inr p =>
      obtain ⟨v, e⟩ := p
      rw [sbd_r]
      have ff : ∀ W, hB n b j W = false → ¬ v.1 = W := by
        intro W hW e
        rw [hB_f qw, decide_eq_true e] at hW
        cases hW
      unfold rStmW
      rw [if_neg (ff _ c10), if_neg (ff _ c12), if_neg (ff _ c14), if_neg (ff _ c15), if_neg (ff _ c16), if_neg (ff _ c18), if_neg (ff _ c19), if_neg (ff _ c20), if_neg (ff _ c21), if_neg (ff _ c22), if_neg (ff _ c23)]
end RR
