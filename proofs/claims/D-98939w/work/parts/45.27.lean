/-! PART 27: plain: the Model is told persons, beliefs, masters -/
set_option maxRecDepth 100000
section RP
variable {n : Nat} {b : Nat → Nat}
theorem m_personTold_v {s : ST} {tot a j : Nat} {z0 z : MS} (hs : stOk s) (h : mAt n b a z) (h5 : mI z 5 = 0) (hS : mSt s tot z) (ht : tot ≤ a) (hf : mSf z0 z) :
    ∃ z', m_personTold (nI j) z = some z' ∧ sPo n b z0 (rPersS n b s j a) z' := by
  have h8 := hs.1.2.1
  unfold m_personTold rPersS
  rw [show m_isFull 1 8 (nI j) z = _ from m_isFull_v h5 (kd := 1) (by decide) hS.1.2.1 h8 j]
  by_cases c8 : kP (tK s) = 8
  · rw [if_pos c8, if_pos c8, bnd_s, if_neg (by decide)]
    exact ⟨_, rfl, hf.tr (mRd.flt _ _ _).rn.sf, flt_of _ (by decide) _⟩
  rw [if_neg c8, if_neg c8, bnd_s, if_pos (by decide)]
  obtain ⟨r1, z2, e1, n1, M1⟩ := m_newName_v h h5 hS.1
  rw [e1, bnd_s]
  -- after a fault nothing more happens
  have dead : ∀ (g : Nat × Nat) (y : MS), flt g y → mSf z0 y → ∃ z', (bnv (m_asks 13 y) fun z3 => bnd (m_number 0 99 z3) fun r3 z4 =>
      if (mI z4 5) = 0 then
        ck (inb (8 + (mA z4 39 (Int32.toNatClampNeg 1))) (mN 40)) <|
        nm (wB z4 40 (Int32.toNatClampNeg (8 + (mA z4 39 (Int32.toNatClampNeg 1)))) r1) fun z5 =>
        ck (inb (mA z5 39 (Int32.toNatClampNeg 1)) (mN 42)) <|
        nm (wA z5 42 (Int32.toNatClampNeg (mA z5 39 (Int32.toNatClampNeg 1))) r3) fun z6 =>
        nm (wA z6 39 (Int32.toNatClampNeg 1) ((mA z6 39 (Int32.toNatClampNeg 1)) + 1)) fun z7 =>
        some z7
      else
        some z4) = some z' ∧ mSf z0 z' ∧ flt g z' := by
    intro g y hg hy
    rw [m_asks_f hg.ne, bnv_s, m_number_f hg.ne, bnd_s, if_neg hg.ne]
    exact ⟨y, rfl, hy, hg⟩
  have dead2 : ∀ (g : Nat × Nat) (y : MS), flt g y → mSf z0 y → ∃ z', (bnd (m_number 0 99 y) fun r3 z4 =>
      if (mI z4 5) = 0 then
        ck (inb (8 + (mA z4 39 (Int32.toNatClampNeg 1))) (mN 40)) <|
        nm (wB z4 40 (Int32.toNatClampNeg (8 + (mA z4 39 (Int32.toNatClampNeg 1)))) r1) fun z5 =>
        ck (inb (mA z5 39 (Int32.toNatClampNeg 1)) (mN 42)) <|
        nm (wA z5 42 (Int32.toNatClampNeg (mA z5 39 (Int32.toNatClampNeg 1))) r3) fun z6 =>
        nm (wA z6 39 (Int32.toNatClampNeg 1) ((mA z6 39 (Int32.toNatClampNeg 1)) + 1)) fun z7 =>
        some z7
      else
        some z4) = some z' ∧ mSf z0 z' ∧ flt g z' := by
    intro g y hg hy
    rw [m_number_f hg.ne, bnd_s, if_neg hg.ne]
    exact ⟨y, rfl, hy, hg⟩
  cases q1 : rNewJ n b (tK s) (tNm s) (sSk n b a) with
  | inl g =>
    rw [q1] at M1
    exact dead g z2 M1 (hf.tr n1.sf)
  | inr p =>
  obtain ⟨l, ea⟩ := p
  rw [q1] at M1
  obtain ⟨m1, m2, m3⟩ := M1
  obtain ⟨l1, l2, l3⟩ := rNewJ_r q1
  rw [sbd_r]
  obtain ⟨z3, e3, n3, M3⟩ := m_asks_r (w := 13) (W := wCalm) rfl rfl (by decide) m2 m3
  rw [e3, bnv_s]
  cases q2 : rAsk n b wCalm ea with
  | inl g =>
    rw [q2] at M3
    exact dead2 g z3 M3 (hf.tr (n1.sf.tr n3.sf))
  | inr p =>
  obtain ⟨u, eb⟩ := p
  rw [q2] at M3
  obtain ⟨m4, m5⟩ := M3
  have g2 := rAsk_r q2
  rw [sbd_r]
  obtain ⟨r3, z4, e4, n4, M4⟩ := m_number_r m4 m5 (lo := 0) (hi := 99) (by decide) (by decide)
  rw [show m_number 0 99 z3 = _ from e4, bnd_s]
  cases q3 : rNum n b 0 99 eb with
  | inl g =>
    rw [q3] at M4
    have M4 : flt g z4 := M4
    rw [if_neg M4.ne]
    exact ⟨z4, rfl, hf.tr (n1.sf.tr (n3.sf.tr n4.sf)), M4⟩
  | inr p =>
  obtain ⟨x, ec⟩ := p
  rw [q3] at M4
  obtain ⟨m6, m7, m8⟩ := M4
  obtain ⟨g3, g4, g5, g6⟩ := rNum_r q3
  have S4 := hS.rn (n1.tr (n3.tr n4))
  have hj := sSk_ge n b a
  have P8 : kP (tK s) < 8 := by omega
  have c39 : mA z4 39 (1 : Int32).toNatClampNeg = nI (kP (tK s)) := S4.1.2.1
  rw [if_pos m8, c39, show (8 : Int32) + nI (kP (tK s)) = nI (8 + kP (tK s)) from by rw [show (8 : Int32) = nI 8 from rfl, nI_add], ck_t (inb_nI (by show _ < 32; omega) (by decide)), nm_s]
  have c39b : ∀ v, mA (wB z4 40 (nI (8 + kP (tK s))).toNatClampNeg v) 39 (1 : Int32).toNatClampNeg = nI (kP (tK s)) := fun v => c39
  rw [c39b, ck_t (inb_nI (by show _ < 16; omega) (by decide)), nm_s, nm_s, nI_c (show kP (tK s) < 2 ^ 31 by omega), nI_c (show 8 + kP (tK s) < 2 ^ 31 by omega), show (1 : Int32).toNatClampNeg = 1 from by decide]
  rw [show mA (wA (wB z4 40 (8 + kP (tK s)) r1) 42 (kP (tK s)) r3) 39 1 = nI (kP (tK s)) from by rw [mA_g, if_neg (by omega)]; exact c39, nI_1, m1, m6]
  refine ⟨_, rfl, ?_, ?_, ?_, tot, ?_, by omega⟩
  · refine hf.tr (n1.sf.tr (n3.sf.tr (n4.sf.tr ((mSf.brr _ ?_ _).tr ((mSf.arr _ ?_ _).tr (mSf.arr _ (by decide) _))))))
    · show decide (16 ≤ 8 + kP (tK s)) = false
      exact decide_eq_false (by omega)
    · show decide (8 ≤ kP (tK s)) = false
      exact decide_eq_false (by omega)
  · exact m7.oth (by funext i; show mA (wA (wA (wB z4 40 _ _) 42 _ _) 39 _ _) 0 i = _; rw [mA_g, if_neg (by omega), mA_g, if_neg (by omega)]; rfl) (fun _ _ => rfl)
  · exact m8
  · obtain ⟨⟨s1, s2, s3, s4, s5⟩, s6, s7, s8, s9, s10, s11⟩ := S4
    refine ⟨⟨?_, ?_, s3, P8, fun kd i hk hi => ?_⟩, fun f hf => ?_, fun p hp => ?_, fun p hp => ?_, fun i hi => ?_, fun i hi => ?_, s11⟩
    · rw [mA_g, if_neg (by omega), mA_g, if_neg (by omega)]; exact s1
    · rw [mA_g, if_pos ⟨rfl, rfl⟩]; rfl
    · show nmOk (if kd = 1 ∧ i = kP (tK s) then l.1 else tNm s kd i) ∧ mB (wB z4 40 (8 + kP (tK s)) (lN (nmV l.1))) 40 (8 * kd + i) = lN (nmV (if kd = 1 ∧ i = kP (tK s) then l.1 else tNm s kd i))
      rw [mB_g]
      by_cases c : kd = 1 ∧ i = kP (tK s)
      · rw [if_pos c, if_pos ⟨rfl, by omega⟩]
        exact ⟨l1, rfl⟩
      · have hi : i < if kd = 0 then kF (tK s) else kP (tK s) + 1 := hi
        have hF := s3
        have hlt : i < kN (tK s) kd ∧ ¬ (8 * kd + i = 8 + kP (tK s)) := by
          unfold kN
          by_cases k0 : kd = 0
          · rw [if_pos k0] at hi ⊢
            omega
          · rw [if_neg k0] at hi ⊢
            have : ¬ i = kP (tK s) := fun e => c ⟨by omega, e⟩
            omega
        rw [if_neg c, if_neg (fun g => hlt.2 g.2)]
        exact s5 kd i hk hlt.1
    · rw [mA_g, if_neg (by omega), mA_g, if_neg (by omega)]; exact s6 f hf
    · show mA (wA (wA _ 42 (kP (tK s)) (nI x)) 39 1 _) 42 p = nI (va_up (tK s).2.2.1 (kP (tK s)) x p)
      rw [mA_g, if_neg (by omega), mA_g, vu_at]
      have hp : p < kP (tK s) + 1 := hp
      by_cases c : p = kP (tK s)
      · rw [if_pos c, if_pos ⟨rfl, c⟩]
      · rw [if_neg c, if_neg (fun g => c g.2)]
        exact s7 p (by omega)
    · rw [mA_g, if_neg (by omega), mA_g, if_neg (by omega), mA_g, if_neg (by omega), mA_g, if_neg (by omega), mA_g, if_neg (by omega), mA_g, if_neg (by omega)]; exact s8 p hp
    · rw [mA_g, if_neg (by omega), mA_g, if_neg (by omega)]; exact s9 i hi
    · have a47 : ∀ a k, a ≠ 39 → a ≠ 42 → mA (wA (wA (wB z4 40 (8 + kP (tK s)) (lN (nmV l.1))) 42 (kP (tK s)) (nI x)) 39 1 (nI (kP (tK s) + 1))) a k = mA z4 a k := by
        intro a k h1 h2
        rw [mA_g, if_neg (by omega), mA_g, if_neg (by omega)]
        rfl
      rcases s10 i hi with ⟨g1, g2⟩ | ⟨c, o, g1, g2, g3, g4, g5⟩
      · exact Or.inl ⟨g1, by rw [a47 _ _ (by decide) (by decide)]; exact g2⟩
      · exact Or.inr ⟨c, o, g1, g2, by rw [a47 _ _ (by decide) (by decide)]; exact g3, by rw [a47 _ _ (by decide) (by decide)]; exact g4, fun j hj => by rw [a47 _ _ (by decide) (by decide)]; exact g5 j hj⟩
theorem rOneJ_r {k : SK} {nm : Nat → Nat → List Nat} {kd j : Nat} {v : Nat × Nat} {e : Nat} (h : rOneJ n b k nm kd j = .inr (v, e)) : v.1 < kN k kd ∧ j < e ∧ e ≤ n := by
  obtain ⟨w, e1, q1, q2⟩ := sbd_inr h
  obtain ⟨w1, w2, w3, w4, w5⟩ := rNameJ_r q1
  have q2 : (match fnd (nm kd) w.1 (kN k kd) 0 with
    | some i => (.inr ((i, w.2), e1) : RS (Nat × Nat))
    | none => .inl (3, w.2)) = .inr (v, e) := q2
  cases qf : fnd (nm kd) w.1 (kN k kd) 0 with
  | none => rw [qf] at q2; cases q2
  | some i =>
    rw [qf] at q2
    have := (fnd_lt _ _ _ _ _ qf).2.1
    cases q2
    exact ⟨by omega, w3, w4⟩
def rBelS (n : Nat) (b : Nat → Nat) (s : ST) (r : Bool) (e : Nat) : RS ST := sbd (rOneJ n b (tK s) (tNm s) 1 (sSk n b e)) fun p e1 => sbd (rOneJ n b (tK s) (tNm s) 0 (sSk n b e1)) fun f e2 => if (tR s p.1 ||| tW s p.1).testBit f.1 = true then .inl (3, f.2) else .inr (if r = true then sRgt s p.1 f.1 else sWrg s p.1 f.1, e2)
theorem m_beliefTold_v {s : ST} {tot a : Nat} {z0 z : MS} (r : Bool) (hs : stOk s) (h : mAt n b a z) (h5 : mI z 5 = 0) (hS : mSt s tot z) (ht : tot ≤ a) (hf : mSf z0 z) :
    ∃ z', m_beliefTold r z = some z' ∧ sPo n b z0 (rBelS n b s r a) z' := by
  unfold m_beliefTold rBelS
  obtain ⟨r1, z1, e1, n1, M1⟩ := m_oneOf_v h h5 hS.1 (kd := 1) (by decide)
  rw [show m_oneOf 1 z = _ from e1, bnd_s]
  have S1 := hS.rn n1
  simp only [jn_s]
  cases q1 : rOneJ n b (tK s) (tNm s) 1 (sSk n b a) with
  | inl g =>
    rw [q1] at M1
    obtain ⟨M1, -⟩ := M1
    rw [show m_oneOf 0 z1 = _ from m_oneOf_f (kd := 0) M1.ne S1.1 (by decide), bnd_s, if_neg M1.ne, if_neg M1.ne]
    exact ⟨z1, rfl, hf.tr n1.sf, M1⟩
  | inr p =>
  obtain ⟨p, ea⟩ := p
  rw [q1] at M1
  obtain ⟨m1, m2, m3, m4⟩ := M1
  obtain ⟨p1, p2, p3⟩ := rOneJ_r q1
  have p1 : p.1 < kP (tK s) := p1
  have hj := sSk_ge n b a
  obtain ⟨r2, z2, e2, n2, M2⟩ := m_oneOf_v m2 m3 S1.1 (kd := 0) (by decide)
  rw [show m_oneOf 0 z1 = _ from e2, bnd_s, sbd_r]
  have S2 := S1.rn n2
  cases q2 : rOneJ n b (tK s) (tNm s) 0 (sSk n b ea) with
  | inl g =>
    rw [q2] at M2
    obtain ⟨M2, -⟩ := M2
    rw [if_neg M2.ne, if_neg M2.ne]
    exact ⟨z2, rfl, hf.tr (n1.sf.tr n2.sf), M2⟩
  | inr f =>
  obtain ⟨f, eb⟩ := f
  rw [q2] at M2
  obtain ⟨m5, m6, m7, m8⟩ := M2
  obtain ⟨f1, f2, f3⟩ := rOneJ_r q2
  have f1 : f.1 < kF (tK s) := f1
  have hj2 := sSk_ge n b ea
  have hk8 := hs.1.2.1
  have hf8 := hs.1.1
  have p8 : p.1 < 8 := by omega
  have f8 : f.1 < 8 := by omega
  obtain ⟨x1, x2, x3⟩ := S2.2.2.2.1 p.1 p8
  have w8 : tR s p.1 < 256 ∧ tW s p.1 < 256 := by
    obtain ⟨-, g2, g3, -⟩ := hs.2.1.2.2 p.1 p1
    have : 2 ^ kF (tK s) ≤ 2 ^ 8 := Nat.pow_le_pow_right (by decide) hf8
    exact ⟨Nat.lt_of_lt_of_le g2 this, Nat.lt_of_lt_of_le g3 this⟩
  have o8 : tR s p.1 ||| tW s p.1 < 256 := Nat.or_lt_two_pow (n := 8) w8.1 w8.2
  have i43 : inb r1 (mN 43) = true := by rw [m1]; exact inb_nI (by show _ < 8; omega) (by decide)
  have i44 : inb r1 (mN 44) = true := by rw [m1]; exact inb_nI (by show _ < 8; omega) (by decide)
  rw [if_pos m7, ck_t i43, ck_t i44, m1, nI_c (show p.1 < 2 ^ 31 by omega), x1, x2, nI_or, m5, sbd_r]
  by_cases c : (tR s p.1 ||| tW s p.1).testBit f.1 = true
  · rw [if_pos ((s_has _ o8 _ f8).mpr c), if_pos c, m8, show (3 : Int32) = nI 3 from rfl, m_fail_v m7, bnv_s, if_neg (flt_of z2 (k := 3) (by decide) f.2).ne]
    exact ⟨_, rfl, hf.tr (n1.sf.tr (n2.sf.tr (mRd.flt _ _ _).rn.sf)), flt_of _ (by decide) _⟩
  · rw [if_neg (fun g => c ((s_has _ o8 _ f8).mp g)), if_neg c, if_pos m7]
    have st' : ∀ (k : Nat) (v : Int32) (s' : ST), (k = 43 ∨ k = 44) → tK s' = tK s → tNm s' = tNm s → (∀ q, q < 8 → mA (wA z2 k p.1 v) 43 q = nI (tR s' q) ∧ mA (wA z2 k p.1 v) 44 q = nI (tW s' q) ∧ mA (wA z2 k p.1 v) 45 q = nI (tM s' q) - 1) → sPo n b z0 (.inr (s', eb)) (wA z2 k p.1 v) := by
      intro k v s' hk g1 g2 g3
      have a47 : ∀ a i, a ≠ 43 → a ≠ 44 → mA (wA z2 k p.1 v) a i = mA z2 a i := by
        intro a i h1 h2
        rw [mA_g, if_neg (by omega)]
      refine ⟨hf.tr (n1.sf.tr (n2.sf.tr (mSf.arr _ (by rcases hk with rfl | rfl <;> rfl) _))), m6.oth (by funext i; exact a47 0 i (by decide) (by decide)) (fun _ _ => rfl), m7, tot, ?_, by omega⟩
      obtain ⟨⟨s1, s2, s3, s4, s5⟩, s6, s7, s8, s9, s10, s11⟩ := S2
      unfold mSt mNs
      rw [g1, g2]
      refine ⟨⟨by rw [a47 _ _ (by decide) (by decide)]; exact s1, by rw [a47 _ _ (by decide) (by decide)]; exact s2, s3, s4, s5⟩, fun f hf => by rw [a47 _ _ (by decide) (by decide)]; exact s6 f hf, fun f hf => by rw [a47 _ _ (by decide) (by decide)]; exact s7 f hf, g3, fun f hf => by rw [a47 _ _ (by decide) (by decide)]; exact s9 f hf, fun i hi => ?_, s11⟩
      rcases s10 i hi with ⟨g1, g2⟩ | ⟨c, o, g1, g2, g3, g4, g5⟩
      · exact Or.inl ⟨g1, by rw [a47 _ _ (by decide) (by decide)]; exact g2⟩
      · exact Or.inr ⟨c, o, g1, g2, by rw [a47 _ _ (by decide) (by decide)]; exact g3, by rw [a47 _ _ (by decide) (by decide)]; exact g4, fun j hj => by rw [a47 _ _ (by decide) (by decide)]; exact g5 j hj⟩
    have old := S2.2.2.2.1
    cases r with
    | false =>
      rw [if_pos (show bI false = 0 by decide), ← m1, ck_t i44, ck_t i44, nm_s, s_or _ w8.2 _ f8, if_neg (by decide)]
      refine ⟨_, rfl, st' 44 _ (sWrg s p.1 f.1) (Or.inr rfl) rfl rfl (fun q hq => ?_)⟩
      obtain ⟨o1, o2, o3⟩ := old q hq
      have ew : tW (sWrg s p.1 f.1) q = if q = p.1 then tW s p.1 ||| 2 ^ f.1 else tW s q := vu_at _ _ _ _
      refine ⟨by rw [mA_g, if_neg (by omega)]; exact o1, ?_, by rw [mA_g, if_neg (by omega)]; exact o3⟩
      rw [mA_g, ew]
      by_cases cq : q = p.1
      · rw [if_pos ⟨rfl, cq⟩, if_pos cq]
      · rw [if_neg (fun g => cq g.2), if_neg cq]; exact o2
    | true =>
      rw [if_neg (show ¬ bI true = 0 by decide), ← m1, ck_t i43, ck_t i43, nm_s, s_or _ w8.1 _ f8, if_pos rfl]
      refine ⟨_, rfl, st' 43 _ (sRgt s p.1 f.1) (Or.inl rfl) rfl rfl (fun q hq => ?_)⟩
      obtain ⟨o1, o2, o3⟩ := old q hq
      have ew : tR (sRgt s p.1 f.1) q = if q = p.1 then tR s p.1 ||| 2 ^ f.1 else tR s q := vu_at _ _ _ _
      refine ⟨?_, by rw [mA_g, if_neg (by omega)]; exact o2, by rw [mA_g, if_neg (by omega)]; exact o3⟩
      rw [mA_g, ew]
      by_cases cq : q = p.1
      · rw [if_pos ⟨rfl, cq⟩, if_pos cq]
      · rw [if_neg (fun g => cq g.2), if_neg cq]; exact o1
def rTauS (n : Nat) (b : Nat → Nat) (s : ST) (e : Nat) : RS ST := sbd (rOneJ n b (tK s) (tNm s) 1 (sSk n b e)) fun p e1 => if tM s p.1 = 0 then sbd (rAsk n b wBy e1) fun _ e2 => sbd (rOneJ n b (tK s) (tNm s) 1 (sSk n b e2)) fun m e3 => if sBy (tM s) 8 (m.1 + 1) p.1 = true then .inl (3, m.2) else .inr (sMst' s p.1 m.1, e3) else .inl (3, p.2)
theorem tau_L {s : ST} {z : MS} (h5 : mI z 5 = 0) (h8 : kP (tK s) ≤ 8) (hM : ∀ p, p < kP (tK s) → tM s p ≤ kP (tK s)) (h45 : ∀ p, p < 8 → mA z 45 p = nI (tM s p) - 1) {p : Nat} (hp : p < kP (tK s)) (k : Int32 → MS → Option MS) (dm : Int32 → MS → Option MS) : ∀ (m a : Nat), a ≤ kP (tK s) → wUp (tM s) m a = 0 → ∀ f, m < f →
    fx (m_taughtTold_L48 (nI p) k) dm f (nI a - 1) z = k (if sBy (tM s) m a p = true then nI p else -1) z
  | m, a, ha, hu, 0, hf => absurd hf (Nat.not_lt_zero _)
  | m, a, ha, hu, f + 1, hf => by
    have ep : nI p = nI (p + 1) - 1 := (nI_pred p).symm
    have IH := fun m' a' h1 h2 h3 => tau_L h5 h8 hM h45 hp k dm m' a' h1 h2 f h3
    rw [fx_s]
    generalize fx (m_taughtTold_L48 (nI p) k) dm f = S at IH ⊢
    unfold m_taughtTold_L48
    rw [if_pos h5]
    by_cases c0 : a = 0
    · have e : sBy (tM s) m a p = false := by
        rw [c0]
        cases m with
        | zero => exact decide_eq_false (by omega)
        | succ m => rfl
      rw [e, c0, if_pos (by decide), if_neg (by decide)]
      rfl
    · rw [if_neg (m1_ne c0 (by omega))]
      by_cases c1 : a = p + 1
      · have e : sBy (tM s) m a p = true := by
          rw [c1]
          cases m with
          | zero => exact decide_eq_true rfl
          | succ m =>
            show (if p + 1 = 0 then false else if p + 1 = p + 1 then true else _) = true
            rw [if_neg (by omega), if_pos rfl]
        rw [e, if_pos rfl, c1, nI_pred, if_pos rfl]
      · rw [if_neg (fun g => c1 ((m1_inj (by omega) (by omega)).mp (by rw [g, ep]))), nI_m1 (by omega), ck_t (inb_nI (by show _ < 8; omega) (by decide)), nI_c (show a - 1 < 2 ^ 31 by omega), h45 (a - 1) (by omega)]
        cases m with
        | zero => exact absurd hu c0
        | succ m =>
          rw [wUp_S _ _ _ c0] at hu
          rw [IH m (tM s (a - 1)) (hM _ (by omega)) hu (by omega)]
          have e : sBy (tM s) (m + 1) a p = sBy (tM s) m (tM s (a - 1)) p := by
            show (if a = 0 then false else if a = p + 1 then true else sBy (tM s) m (tM s (a - 1)) p) = _
            rw [if_neg c0, if_neg c1]
          rw [e]
theorem m_taughtTold_v {s : ST} {tot a : Nat} {z0 z : MS} (hs : stOk s) (h : mAt n b a z) (h5 : mI z 5 = 0) (hS : mSt s tot z) (ht : tot ≤ a) (hf : mSf z0 z) :
    ∃ z', m_taughtTold z = some z' ∧ sPo n b z0 (rTauS n b s a) z' := by
  have hk8 := hs.1.2.1
  unfold m_taughtTold rTauS
  obtain ⟨r1, z1, e1, n1, M1⟩ := m_oneOf_v h h5 hS.1 (kd := 1) (by decide)
  rw [show m_oneOf 1 z = _ from e1, bnd_s]
  have S1 := hS.rn n1
  simp only [jn_s]
  -- after a fault nothing more happens
  have fin : ∀ (r2 : Int32) (g : Nat × Nat) (y : MS), flt g y → fx (m_taughtTold_L48 r1 fun (x1 : Int32) (z5 : MS) =>
      if (mI z5 5) = 0 then
        if x1 = r1 then
          bnv (m_fail 3 (mI z5 38) z5) fun z8 =>
          if (mI z8 5) = 0 then
            ck (inb r1 (mN 45)) <|
            nm (wA z8 45 (Int32.toNatClampNeg r1) r2) fun z7 =>
            some z7
          else
            some z8
        else
          if (mI z5 5) = 0 then
            ck (inb r1 (mN 45)) <|
            nm (wA z5 45 (Int32.toNatClampNeg r1) r2) fun z7 =>
            some z7
          else
            some z5
      else
        if (mI z5 5) = 0 then
          ck (inb r1 (mN 45)) <|
          nm (wA z5 45 (Int32.toNatClampNeg r1) r2) fun z7 =>
          some z7
        else
          some z5) (fun _ _ => none) FU r2 y = some y := by
    intro r2 g y hg
    rw [fx_FU]
    unfold m_taughtTold_L48
    rw [if_neg hg.ne]
    show (if mI y 5 = 0 then _ else _) = _
    rw [if_neg hg.ne, if_neg hg.ne]
  cases q1 : rOneJ n b (tK s) (tNm s) 1 (sSk n b a) with
  | inl g =>
    rw [q1] at M1
    obtain ⟨M1, -⟩ := M1
    rw [if_neg M1.ne, m_asks_f M1.ne, bnv_s, show m_oneOf 1 z1 = _ from m_oneOf_f (kd := 1) M1.ne S1.1 (by decide), bnd_s, fin 0 g z1 M1]
    exact ⟨z1, rfl, hf.tr n1.sf, M1⟩
  | inr p =>
  obtain ⟨p, ea⟩ := p
  rw [q1] at M1
  obtain ⟨m1, m2, m3, m4⟩ := M1
  obtain ⟨p1, p2, p3⟩ := rOneJ_r q1
  have p1 : p.1 < kP (tK s) := p1
  have hj := sSk_ge n b a
  have hM := fun q hq => (hs.2.1.2.2 q hq).1
  have hMp : tM s p.1 ≤ kP (tK s) := hM p.1 p1
  have i45 : inb r1 (mN 45) = true := by rw [m1]; exact inb_nI (by show _ < 8; omega) (by decide)
  have c45 : r1.toNatClampNeg = p.1 := by rw [m1]; exact nI_c (by omega)
  rw [if_pos m3, ck_t i45, show mA z1 45 r1.toNatClampNeg = nI (tM s p.1) - 1 from by rw [c45]; exact (S1.2.2.2.1 p.1 (by omega)).2.2, sbd_r]
  by_cases c0 : tM s p.1 = 0
  · rw [c0, if_pos (show nI 0 - 1 = -1 by decide), if_pos rfl]
    obtain ⟨z3, e3, n3, M3⟩ := m_asks_r (w := 17) (W := wBy) rfl rfl (by decide) m2 m3
    rw [e3, bnv_s]
    have S3 := S1.rn n3
    cases q2 : rAsk n b wBy ea with
    | inl g =>
      rw [q2] at M3
      have M3 : flt g z3 := M3
      rw [show m_oneOf 1 z3 = _ from m_oneOf_f (kd := 1) M3.ne S3.1 (by decide), bnd_s, fin 0 g z3 M3]
      exact ⟨z3, rfl, hf.tr (n1.sf.tr n3.sf), M3⟩
    | inr u =>
    obtain ⟨u, eb⟩ := u
    rw [q2] at M3
    obtain ⟨m5, m6⟩ := M3
    have g2 := rAsk_r q2
    rw [sbd_r]
    obtain ⟨r2, z4, e4, n4, M4⟩ := m_oneOf_v m5 m6 S3.1 (kd := 1) (by decide)
    rw [show m_oneOf 1 z3 = _ from e4, bnd_s]
    have S4 := S3.rn n4
    cases q3 : rOneJ n b (tK s) (tNm s) 1 (sSk n b eb) with
    | inl g =>
      rw [q3] at M4
      obtain ⟨M4, -⟩ := M4
      rw [fin r2 g z4 M4]
      exact ⟨z4, rfl, hf.tr (n1.sf.tr (n3.sf.tr n4.sf)), M4⟩
    | inr m =>
    obtain ⟨m, ec⟩ := m
    rw [q3] at M4
    obtain ⟨m7, m8, m9, m10⟩ := M4
    obtain ⟨g3, g4, g5⟩ := rOneJ_r q3
    have g3 : m.1 < kP (tK s) := g3
    have hj3 := sSk_ge n b eb
    have L := tau_L (s := s) (z := z4) m9 hk8 hM (fun q hq => (S4.2.2.2.1 q hq).2.2) p1 (fun (x1 : Int32) (z5 : MS) =>
      if (mI z5 5) = 0 then
        if x1 = r1 then
          bnv (m_fail 3 (mI z5 38) z5) fun z8 =>
          if (mI z8 5) = 0 then
            ck (inb r1 (mN 45)) <|
            nm (wA z8 45 (Int32.toNatClampNeg r1) r2) fun z7 =>
            some z7
          else
            some z8
        else
          if (mI z5 5) = 0 then
            ck (inb r1 (mN 45)) <|
            nm (wA z5 45 (Int32.toNatClampNeg r1) r2) fun z7 =>
            some z7
          else
            some z5
      else
        if (mI z5 5) = 0 then
          ck (inb r1 (mN 45)) <|
          nm (wA z5 45 (Int32.toNatClampNeg r1) r2) fun z7 =>
          some z7
        else
          some z5) (fun _ _ => none) 8 (m.1 + 1) g3 (hs.2.1.up8 hs.1 g3) FU (FU_gt (by decide))
    rw [← m1, nI_pred, ← m7] at L
    rw [L, if_pos m9, sbd_r]
    by_cases c1 : sBy (tM s) 8 (m.1 + 1) p.1 = true
    · rw [if_pos c1, if_pos c1, if_pos rfl, m10, show (3 : Int32) = nI 3 from rfl, m_fail_v m9, bnv_s, if_neg (flt_of z4 (k := 3) (by decide) m.2).ne]
      exact ⟨_, rfl, hf.tr (n1.sf.tr (n3.sf.tr (n4.sf.tr (mRd.flt _ _ _).rn.sf))), flt_of _ (by decide) _⟩
    · rw [if_neg c1, if_neg c1, if_neg (show ¬ (-1 : Int32) = r1 by rw [m1]; exact fun g => nI_nm1 (by omega) g.symm), if_pos m9, ck_t i45, nm_s, c45]
      have a47 : ∀ a i, a ≠ 45 → mA (wA z4 45 p.1 r2) a i = mA z4 a i := by
        intro a i h1
        rw [mA_g, if_neg (by omega)]
      refine ⟨_, rfl, hf.tr (n1.sf.tr (n3.sf.tr (n4.sf.tr (mSf.arr _ rfl _)))), m8.oth (by funext i; exact a47 0 i (by decide)) (fun _ _ => rfl), m9, tot, ?_, by omega⟩
      obtain ⟨⟨s1, s2, s3, s4, s5⟩, s6, s7, s8, s9, s10, s11⟩ := S4
      refine ⟨⟨by rw [a47 _ _ (by decide)]; exact s1, by rw [a47 _ _ (by decide)]; exact s2, s3, s4, s5⟩, fun f hf => by rw [a47 _ _ (by decide)]; exact s6 f hf, fun f hf => by rw [a47 _ _ (by decide)]; exact s7 f hf, fun q hq => ?_, fun f hf => by rw [a47 _ _ (by decide)]; exact s9 f hf, fun i hi => ?_, s11⟩
      · obtain ⟨o1, o2, o3⟩ := s8 q hq
        have ew : tM (sMst' s p.1 m.1) q = if q = p.1 then m.1 + 1 else tM s q := vu_at _ _ _ _
        rw [a47 _ _ (by decide), a47 _ _ (by decide), mA_g, ew]
        refine ⟨o1, o2, ?_⟩
        by_cases cq : q = p.1
        · rw [if_pos ⟨rfl, cq⟩, if_pos cq, nI_pred, m7]
        · rw [if_neg (fun g => cq g.2), if_neg cq]; exact o3
      · rcases s10 i hi with ⟨g1, g2⟩ | ⟨c, o, g1, g2, g3, g4, g5⟩
        · exact Or.inl ⟨g1, by rw [a47 _ _ (by decide)]; exact g2⟩
        · exact Or.inr ⟨c, o, g1, g2, by rw [a47 _ _ (by decide)]; exact g3, by rw [a47 _ _ (by decide)]; exact g4, fun j hj => by rw [a47 _ _ (by decide)]; exact g5 j hj⟩
  · have hne : ¬ nI (tM s p.1) - 1 = -1 := m1_ne c0 (by omega)
    have F := flt_of z1 (k := 3) (by decide) p.2
    rw [if_neg hne, if_neg c0, m4, show (3 : Int32) = nI 3 from rfl, m_fail_v m3, bnv_s, m_asks_f F.ne, bnv_s, show m_oneOf 1 (mFlt z1 3 p.2) = _ from m_oneOf_f (kd := 1) F.ne (S1.rn (mRd.flt _ _ _).rn).1 (by decide), bnd_s]
    have := fin 0 (3, p.2) (mFlt z1 3 p.2) F
    rw [show (3 : Int32) = nI 3 from rfl] at this
    rw [this]
    exact ⟨_, rfl, hf.tr (n1.sf.tr (mRd.flt _ _ _).rn.sf), F⟩
end RP
