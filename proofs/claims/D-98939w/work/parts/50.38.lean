/-! PART 38: plain: the heap grows under the component; a school begins -/
set_option maxRecDepth 100000
def isC (P : Nat → Prop) (h : PH) (a : Nat) : Prop := P a ∧ h.2.2 a ≠ none
section TF
variable {P : Nat → Prop} {B : Nat} {h : PH}
theorem isC_of {a : Nat} (h1 : P a) {x : Bool × PE} (h2 : h.2.2 a = some x) : isC P h a := ⟨h1, by rw [h2]; intro q; cases q⟩
theorem lstP.sm {al : Nat} {ads : Nat → Nat} {n : Nat} (g : lstP P h al ads n) : lstP (isC P h) h al ads n := by
  obtain ⟨g0, b1, b2, mc, ar, ln, f, g1, g2, g3, g4⟩ := g
  exact ⟨isC_of g0 g2, b1, b2, mc, ar, ln, f, isC_of g1 g3, g2, g3, g4⟩
theorem sbP.sm {sb : Nat} {sg : Nat → Nat} {n : Nat} (g : sbP P h sb sg n) : sbP (isC P h) h sb sg n := by
  obtain ⟨g0, b1, b2, x, ba, ln, f, g1, g2, g3, g4⟩ := g
  exact ⟨isC_of g0 g2, b1, b2, x, ba, ln, f, isC_of g1 g3, g2, g3, g4⟩
theorem strP.sm {a : Nat} {l : List Nat} (g : strP P h a l) : strP (isC P h) h a l := by
  obtain ⟨g0, b1, b2, x, y, ba, f, g1, g2, g3, g4⟩ := g
  exact ⟨isC_of g0 g2, b1, b2, x, y, ba, f, isC_of g1 g3, g2, g3, g4⟩
theorem vT.sm : ∀ {n a : Nat} {c : List Int32}, vT P B n h a c → vT (isC P h) B n h a c
  | 0, a, c, g => g
  | n + 1, a, c, g => by
    obtain ⟨g0, g⟩ := g
    rcases g with ⟨b, m, g1, g2, g3⟩ | ⟨b, m, g1, g2, g3⟩ | ⟨b, mo, a1, a2, c1, c2, g1, g2, g3, g4⟩ | ⟨b, a1, c1, g1, g2, g3⟩ | ⟨b, al, sb, m, ads, sg, cs, g1, g2, g3, g4, g5, g6⟩
    · exact ⟨isC_of g0 g2, Or.inl ⟨b, m, g1, g2, g3⟩⟩
    · exact ⟨isC_of g0 g2, Or.inr (Or.inl ⟨b, m, g1, g2, g3⟩)⟩
    · exact ⟨isC_of g0 g1, Or.inr (Or.inr (Or.inl ⟨b, mo, a1, a2, c1, c2, g1, g2.sm, g3.sm, g4⟩))⟩
    · exact ⟨isC_of g0 g1, Or.inr (Or.inr (Or.inr (Or.inl ⟨b, a1, c1, g1, g2.sm, g3⟩)))⟩
    · exact ⟨isC_of g0 g1, Or.inr (Or.inr (Or.inr (Or.inr ⟨b, al, sb, m, ads, sg, cs, g1, g2, g3.sm, g4.sm, fun i hi => ⟨(g5 i hi).1.sm, (g5 i hi).2⟩, g6⟩)))⟩
theorem tT.sm : ∀ {n a : Nat} {c : List Int32}, tT P B n h a c → tT (isC P h) B n h a c
  | 0, a, c, g => g
  | n + 1, a, c, g => by
    obtain ⟨g0, g⟩ := g
    rcases g with ⟨b, g1, g2⟩ | ⟨b, a1, c1, g1, g2, g3⟩ | ⟨b, a1, a2, s, c1, c2, g1, g2, g3, g4, g5⟩ | ⟨b, all, al, m, ads, cs, g1, g2, g3, g4, g5⟩
    · exact ⟨isC_of g0 g1, Or.inl ⟨b, g1, g2⟩⟩
    · exact ⟨isC_of g0 g1, Or.inr (Or.inl ⟨b, a1, c1, g1, g2.sm, g3⟩)⟩
    · exact ⟨isC_of g0 g1, Or.inr (Or.inr (Or.inl ⟨b, a1, a2, s, c1, c2, g1, g2, g3.sm, g4.sm, g5⟩))⟩
    · exact ⟨isC_of g0 g1, Or.inr (Or.inr (Or.inr ⟨b, all, al, m, ads, cs, g1, g2, g3.sm, fun i hi => (g4 i hi).sm, g5⟩))⟩
theorem scP.sm {k : SK} {nm : Nat → Nat → List Nat} {sa : Nat} (g : scP P B k nm h sa) : scP (isC P h) B k nm h sa := by
  obtain ⟨g0, b, st, fl, pl, tq, fo, po, g1, g2, g3, g4, g5, g6⟩ := g
  refine ⟨isC_of g0 g1, b, st, fl, pl, tq, fo, po, g1, g2.sm, g3.sm, fun f hf => ?_, fun p hp => ?_, fun i hi => ?_⟩
  · obtain ⟨q0, b, n, q1, q2⟩ := g4 f hf
    exact ⟨isC_of q0 q1, b, n, q1, q2.sm⟩
  · obtain ⟨q0, b, n, m, r, w, q1, q2⟩ := g5 p hp
    exact ⟨isC_of q0 q1, b, n, m, r, w, q1, q2.sm⟩
  · rcases g6 i hi with q | ⟨c, t, q1, q2, q3⟩
    · exact Or.inl q
    · exact Or.inr ⟨c, t, q1, q2, q3.sm⟩
end TF
section TG
variable {B : Nat} {D : PD} {cap : Nat × Nat} {g : SG} {c c' : CZ} {h h' : PH}
theorem cG.gr (H : cG B g c h) (hw : hW B h) (hg : hGr h h') : cG B g c h' := by
  obtain ⟨h0', ⟨h1, sa, h2, h3⟩, h4⟩ := H
  refine ⟨h0', ⟨h1, sa, h2, h3.sm.of (fun a ha => ⟨ha.1, hg.2.2 a ?_⟩)⟩, h4⟩
  by_cases q : a < h.1
  · exact q
  · exact absurd (hw.2 a (by omega)) ha.2
theorem Kst.up {N N' : Nat} (hN : N ≤ N') (k : Kst D B N h) : Kst D B N' h := by
  have e : ∀ a, bel B N a → bel B N' a ∧ h.2.2 a = h.2.2 a := fun a ha => ⟨⟨ha.1, Nat.lt_of_lt_of_le ha.2 hN⟩, rfl⟩
  obtain ⟨g1, g2, ⟨q0, L, g3, g4, g5⟩, ⟨q1, g6, g7⟩, ⟨q2, g8, g9⟩, ⟨q3, g10, g11⟩⟩ := k
  exact ⟨g1, fun i hi => (g2 i hi).of e, ⟨q0, L, g3, g4.of e, g5⟩, ⟨q1, g6, g7.of e⟩, ⟨q2, g8, g9.of e⟩, ⟨q3, g10, g11.of e⟩⟩
theorem cG.r7 (H : cG B g c h) (r : cR7 c c') : cG B g c' h := by
  obtain ⟨h0', h1, h2, h3, ⟨u1, u2, u3, σ, s1, s2, s3, s4⟩, h5, h6, h7, h8, h9, h10, h11⟩ := H
  have e : ∀ o i, o ≠ 7 → o ≠ 8 → cI c' o i = cI c o i := r.1
  refine ⟨h0', h1.q (r.2.2 0 (by decide)), h2.of (fun o i a b => e o i (by omega) (by omega)) (r.2.2 _ (by decide)), h3.of (r.2.2 _ (by decide)), ⟨u1, by rw [e _ _ (by decide) (by decide)]; exact u2, fun j hj => (u3 j hj).of (r.2.2 _ (by omega)), σ, s1, s2, fun i hi => by show c'.2.2 99 i = _; rw [r.2.2 99 (by decide)]; exact s3 i hi, fun i hi => (s4 i hi).of (fun o i' a b => e o i' (by omega) (by omega)) (r.2.2 _ (by omega))⟩, ⟨h5.1, by rw [e _ _ (by decide) (by decide)]; exact h5.2.1, fun i hi => by rw [e _ _ (by decide) (by decide), e _ _ (by decide) (by decide)]; exact h5.2.2 i hi⟩, ⟨by rw [e _ _ (by decide) (by decide)]; exact h6.1, fun i hi => by rw [e _ _ (by decide) (by decide)]; exact h6.2 i hi⟩, fun j hj => by rw [e _ _ (by decide) (by decide)]; exact h7 j hj, ⟨by rw [e _ _ (by decide) (by decide)]; exact h8.1, by rw [e _ _ (by decide) (by decide)]; exact h8.2⟩, by show c'.2.1 0 17 = _; rw [r.2.1]; exact h9, ⟨by rw [e _ _ (by decide) (by decide)]; exact h10.1, fun i hi => by rw [e _ _ (by decide) (by decide)]; exact h10.2 i hi⟩, fun j hj => by show c'.2.2 90 j = _; rw [r.2.2 90 (by decide)]; exact h11 j hj⟩
theorem cG.flt (H : cG B g c h) (x y : Int32) : cG B (uFt g (x, y)) (xI (xI c 0 3 x) 0 4 y) h := by
  have e : ∀ o i, ¬ (o = 0 ∧ (i = 3 ∨ i = 4)) → cI (xI (xI c 0 3 x) 0 4 y) o i = cI c o i := fun o i q => by rw [cI_xI_ne _ (by omega), cI_xI_ne _ (by omega)]
  obtain ⟨k1, k2, k3, k4, k5⟩ := H.core (c' := xI (xI c 0 3 x) 0 4 y) (fun o i' q => e o i' (by omega)) (e 0 16 (by decide)) rfl
  obtain ⟨h0', h1, h2, h3, h4, h5, h6, h7, h8, h9, h10, h11⟩ := H
  exact ⟨h0', k1, k2, k3, k4, ⟨h5.1, by rw [e _ _ (by decide)]; exact h5.2.1, fun i hi => by rw [e _ _ (by omega), e _ _ (by omega)]; exact h5.2.2 i hi⟩, ⟨by rw [e _ _ (by decide)]; exact h6.1, fun i hi => by rw [e _ _ (by omega)]; exact h6.2 i hi⟩, fun j hj => by rw [e _ _ (by omega)]; exact h7 j hj, ⟨by rw [cI_xI_ne _ (by omega), cI_xI_eq]; rfl, by rw [cI_xI_eq]; rfl⟩, h9, ⟨by rw [e _ _ (by decide)]; exact h10.1, fun i hi => by rw [e _ _ (by omega)]; exact h10.2 i hi⟩, k5⟩
/-- the school told is one that the component can hold -/
theorem scW.sc {N sa cnt : Nat} {s : ST} (G : scW B N h sa s cnt) (hN : B + 841 ≤ N) : scP (outB B) B (tK s) (tNm s) h sa := by
  obtain ⟨fl, fr, fn, pl, pr, pn, fo, po, tq, ⟨a1, a2⟩, a3, g1, g2, d, g4, g5, g6, g7⟩ := G
  have ov : ∀ a, iv N h.1 a → outB B a ∧ h.2.2 a = h.2.2 a := fun a ha => ⟨Or.inr (Or.inr (by have := ha.1; omega)), rfl⟩
  have oq : ∀ a, scQ N h.1 sa fl fr pl pr po (kP (tK s)) a → outB B a ∧ h.2.2 a = h.2.2 a := fun a ha => ov a ha.1
  refine ⟨(ov sa ⟨a1, a2⟩).1, true, nI cnt, fl, pl, tq, fo, po, a3, g1.ls.of ov, g2.ls.of ov, fun f hf => ?_, fun p hp => ?_, fun i hi => ?_⟩
  · obtain ⟨q1, n, q2, q3⟩ := g4 f hf
    exact ⟨(oq _ q1).1, true, n, q2, q3.of oq⟩
  · obtain ⟨⟨q1, -⟩, n, q2, q3⟩ := g5 p hp
    exact ⟨(ov _ q1).1, true, n, _, _, _, q2, q3.of oq⟩
  · rcases g7 i hi with q | ⟨c, t, q1, q2, q3⟩
    · exact Or.inl q
    · exact Or.inr ⟨c, t, q1, q2, q3.of oq⟩
/-- the people begin -/
theorem begins_L {N sa cnt : Nat} {s : ST} (G : scW B N h sa s cnt) (hN : B + 841 ≤ N) (hs : stOk s) (dm : Int32 → PH → Option PH) : ∀ (m p : Nat) (c : CZ), p ≤ kP (tK s) → kP (tK s) - p < m → cQ c 0 0 = some sa →
    ∃ c', fx (fX5_begins_L22 (B + 14)) dm m (nI p) (mk B c h) = some (mk B c' h) ∧ (∀ o i, o < 15 ∨ 18 < o → cI c' o i = cI c o i) ∧ c'.2 = c.2 ∧ (∀ o q, q < p → cI c' o q = cI c o q) ∧ ∀ q, p ≤ q → q < kP (tK s) → cI c' 15 q = nI (tM s q) - 1 ∧ cI c' 16 q = nI (tR s q) ∧ cI c' 17 q = nI (tW s q) ∧ cI c' 18 q = nI (kSe (tK s) 1)
  | 0, p, c, _, hm, _ => absurd hm (Nat.not_lt_zero _)
  | m + 1, p, c, hp, hm, hq => by
    have IH := fun c1 h1 h2 h3 => begins_L G hN hs dm m (p + 1) c1 h1 h2 h3
    rw [fx_s]
    generalize fx (fX5_begins_L22 (B + 14)) dm m = T at IH ⊢
    have h8 := hs.1.2.1
    have sc : ∀ y : CZ, cQ y 0 0 = some sa → cSc B (tK s) (tNm s) y h := fun y hy => ⟨hs.1, sa, hy, G.sc hN⟩
    have F0 : ∀ y : CZ, cQ y 0 0 = some sa → pF (mk B y h) B 0 0 = some (.ref sa) := fun y hy => by rw [x0_F0, hy]; rfl
    unfold fX5_begins_L22
    rw [st_F11 is14, vA_s, x0_cls, ckc_s, x_people (sc c hq), bnd_s]
    by_cases ci : p < kP (tK s)
    · obtain ⟨fl, fr, fn, pl, pr, pn, fo, po, tq, g⟩ := G
      have in8 : inb (nI p) 8 = true := inb_nI (by omega) (by decide)
      have nc : (nI p).toNatClampNeg = p := nI_c (by omega)
      have L : ∀ y : CZ, lstP (iv N h.1) (mk B y h) pl po (kP (tK s)) := fun y => g.ppl hN y
      obtain ⟨b1, b2, nn, b3⟩ := g.2.2.2.2.2.2.1 p ci
      have M : ∀ y : CZ, (mk B y h).2.2 (po p) = some (true, .inr (8, [.ref b2, .int (nI (kCa (tK s) p)), .int (nI (tM s p) - 1), .int (nI (tR s p)), .int (nI (tW s p))])) := fun y => by rw [mk_out (Or.inr (Or.inr (by have := b1.1.1; omega)))]; exact nn
      rw [if_neg (nI_ge ci (by omega)), st_F4 is14, vA_s, st_F11 is14, vA_s, F0 c hq, vA_s, g.F hN c (k := 5) rfl, vA_s, l_cls (L c), ckc_s, l_get (L c) ci, bnd_s, qS_s, pCls_of (M c), ckc_s, pF_of (k := 2) (M c) rfl, vI_s, Nat.add_assoc B 14 1, (st_k1 is14).st c h in8, bnv_s, nc]
      have hq1 : cQ (xI c (14 + 1) p (nI (tM s p) - 1)) 0 0 = some sa := hq
      have u1 : ∀ o i, cI (xI c (14 + 1) p (nI (tM s p) - 1)) o i = if o = 15 ∧ i = p then nI (tM s p) - 1 else cI c o i := fun o i => cI_x _ _ _ _ _ _
      have v1 : (xI c (14 + 1) p (nI (tM s p) - 1)).2 = c.2 := rfl
      generalize xI c (14 + 1) p (nI (tM s p) - 1) = c1 at hq1 u1 v1
      rw [st_F5 is14, vA_s, st_F11 is14, vA_s, F0 c1 hq1, vA_s, g.F hN c1 (k := 5) rfl, vA_s, l_cls (L c1), ckc_s, l_get (L c1) ci, bnd_s, qS_s, pCls_of (M c1), ckc_s, pF_of (k := 3) (M c1) rfl, vI_s, Nat.add_assoc B 14 2, (st_k2 is14).st c1 h in8, bnv_s, nc]
      have hq2 : cQ (xI c1 (14 + 2) p (nI (tR s p))) 0 0 = some sa := hq1
      have u2 : ∀ o i, cI (xI c1 (14 + 2) p (nI (tR s p))) o i = if o = 16 ∧ i = p then nI (tR s p) else cI c1 o i := fun o i => cI_x _ _ _ _ _ _
      have v2 : (xI c1 (14 + 2) p (nI (tR s p))).2 = c.2 := v1
      generalize xI c1 (14 + 2) p (nI (tR s p)) = c2 at hq2 u2 v2
      rw [st_F6 is14, vA_s, st_F11 is14, vA_s, F0 c2 hq2, vA_s, g.F hN c2 (k := 5) rfl, vA_s, l_cls (L c2), ckc_s, l_get (L c2) ci, bnd_s, qS_s, pCls_of (M c2), ckc_s, pF_of (k := 4) (M c2) rfl, vI_s, Nat.add_assoc B 14 3, (st_k3 is14).st c2 h in8, bnv_s, nc]
      have hq3 : cQ (xI c2 (14 + 3) p (nI (tW s p))) 0 0 = some sa := hq2
      have u3 : ∀ o i, cI (xI c2 (14 + 3) p (nI (tW s p))) o i = if o = 17 ∧ i = p then nI (tW s p) else cI c2 o i := fun o i => cI_x _ _ _ _ _ _
      have v3 : (xI c2 (14 + 3) p (nI (tW s p))).2 = c.2 := v2
      generalize xI c2 (14 + 3) p (nI (tW s p)) = c3 at hq3 u3 v3
      rw [st_F7 is14, vA_s, st_F11 is14, vA_s, F0 c3 hq3, vA_s, g.F hN c3 (k := 2) rfl, vI_s, Nat.add_assoc B 14 4, (st_k4 is14).st c3 h in8, bnv_s, nc, nI_1]
      have hq4 : cQ (xI c3 (14 + 4) p (nI (kSe (tK s) 1))) 0 0 = some sa := hq3
      have u4 : ∀ o i, cI (xI c3 (14 + 4) p (nI (kSe (tK s) 1))) o i = if o = 18 ∧ i = p then nI (kSe (tK s) 1) else cI c3 o i := fun o i => cI_x _ _ _ _ _ _
      have v4 : (xI c3 (14 + 4) p (nI (kSe (tK s) 1))).2 = c.2 := v3
      generalize xI c3 (14 + 4) p (nI (kSe (tK s) 1)) = c4 at hq4 u4 v4
      obtain ⟨c', i1, i2, i3, i4, i5⟩ := IH c4 ci (by omega) hq4
      refine ⟨c', i1, fun o i ho => ?_, i3.trans v4, fun o q hq => ?_, fun q q1 q2 => ?_⟩
      · rw [i2 o i ho, u4, if_neg (by omega), u3, if_neg (by omega), u2, if_neg (by omega), u1, if_neg (by omega)]
      · rw [i4 o q (by omega), u4, if_neg (by omega), u3, if_neg (by omega), u2, if_neg (by omega), u1, if_neg (by omega)]
      · by_cases cq : q = p
        · subst cq
          rw [i4 15 q (by omega), i4 16 q (by omega), i4 17 q (by omega), i4 18 q (by omega)]
          refine ⟨?_, ?_, ?_, ?_⟩
          · rw [u4, if_neg (by omega), u3, if_neg (by omega), u2, if_neg (by omega), u1, if_pos ⟨rfl, rfl⟩]
          · rw [u4, if_neg (by omega), u3, if_neg (by omega), u2, if_pos ⟨rfl, rfl⟩]
          · rw [u4, if_neg (by omega), u3, if_pos ⟨rfl, rfl⟩]
          · rw [u4, if_pos ⟨rfl, rfl⟩]
        · exact i5 q (by omega) q2
    · rw [if_pos (nI_le (by omega) (by omega))]
      exact ⟨c, rfl, fun _ _ _ => rfl, rfl, fun _ _ _ => rfl, fun q q1 q2 => absurd q2 (by omega)⟩
end TG
