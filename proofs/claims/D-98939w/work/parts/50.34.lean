/-! PART 34: plain: statements: what a person knows, who taught whom -/
set_option maxRecDepth 100000
section TB
variable {B N n : Nat} {b : Nat → Nat} {D : PD} {cap : Nat × Nat}
theorem scO.ppl {h : PH} {sa fl fr fn pl pr pn cnt : Nat} {fo po : Nat → Nat} {tq : Nat → Option Nat} {s : ST} (g : scO B N h sa fl fr fn pl pr pn fo po tq s cnt) (hN : B + 841 ≤ N) (c : CZ) : lstP (iv N h.1) (mk B c h) pl po (kP (tK s)) := g.2.2.2.1.ls.of (fun a ha => ⟨ha, mk_out (Or.inr (Or.inr (by have := ha.1; omega))) c h⟩)
theorem scO.per {h : PH} {sa fl fr fn pl pr pn cnt : Nat} {fo po : Nat → Nat} {tq : Nat → Option Nat} {s : ST} (g : scO B N h sa fl fr fn pl pr pn fo po tq s cnt) (hN : B + 841 ≤ N) (c : CZ) {p : Nat} (hp : p < kP (tK s)) : N ≤ po p ∧ po p < h.1 ∧ ∃ nn, (mk B c h).2.2 (po p) = some (true, .inr (8, [.ref nn, .int (nI (kCa (tK s) p)), .int (nI (tM s p) - 1), .int (nI (tR s p)), .int (nI (tW s p))])) := by
  obtain ⟨⟨q1, -⟩, nn, q2, -⟩ := g.2.2.2.2.2.2.1 p hp
  exact ⟨q1.1, q1.2, nn, by rw [mk_out (Or.inr (Or.inr (by have := q1.1; omega)))]; exact q2⟩
theorem y_bel {c : CZ} {h : PH} {e sa cnt p : Nat} {s : ST} {w : List Nat} (hd : rdS D B N h) (ha : cAs n b e c) (he : e ≤ n) (hq : cQ c 7 6 = some sa) (g : scW B N h sa s cnt) (hs : stOk s) (hp : N ≤ p) (hp1 : p + 1 < h.1) (hw : wH h p w) (r1 : h.1 + 60 * (n - e) + 100 ≤ cap.1) (r2 : h.2.1 + 800 * (n - e) + 40000 ≤ cap.2) :
    stP B N n b true (
          vA (pF (mk B c h) (B + 7) 2 6) fun p13 =>
          vA (pF (mk B c h) p13 1 5) fun p14 =>
          vA (pF (mk B c h) (B + 7) 2 6) fun p15 =>
          vA (pF (mk B c h) p15 1 5) fun p16 =>
          ckc (pCls (mk B c h) (B + 7)) 2 <|
          bnx (fX2_known D cap (B + 7) p16 (mk B c h)) fun r8 h19 =>
          ckc (pCls h19 p14) 21 <|
          bnd (fJ2_get p14 r8 h19) fun q1 h20 =>
          qS q1 fun n1 =>
          ckc (pCls h20 n1) 8 <|
          vA (pF h20 (B + 7) 2 6) fun p17 =>
          vA (pF h20 p17 1 4) fun p18 =>
          ckc (pCls h20 (B + 7)) 2 <|
          bnx (fX2_known D cap (B + 7) p18 h20) fun r9 h21 =>
          vI (pF h21 n1 8 3) fun v1 =>
          vI (pF h21 n1 8 4) fun v2 =>
          bnd (fX0_has (v1 ||| v2) r9 h21) fun r10 h22 =>
          if (bI r10) = 0 then
            ckc (pCls h22 p) 22 <|
            bnd (fJ6_equals D p (some (dK D 2)) h22) fun r11 h23 =>
            if (bI r11) = 0 then
              vI (pF h23 n1 8 4) fun v3 =>
              bnv (pPut h23 n1 8 4 (.int (v3 ||| ((1 : Int32) <<< (r9 &&& 31))))) fun h24 =>
              (some (.inl true, h24) : Option ((Bool ⊕ Nat) × PH))
            else
              vI (pF h23 n1 8 3) fun v4 =>
              bnv (pPut h23 n1 8 3 (.int (v4 ||| ((1 : Int32) <<< (r9 &&& 31))))) fun h25 =>
              some (.inl true, h25)
          else
            vI (pF h22 (B + 7) 2 3) fun v5 =>
            ckc (pCls h22 (B + 7)) 2 <|
            bnd (fX2_wrong (B + 7) 3 v5 h22) fun p19 h26 =>
            some (.inr p19, h26)) c h e sa cnt (rBelS n b s (decide (w = wKnow)) e) := by
  have hn : n ≤ 1600 := by
    obtain ⟨a, q, -⟩ := ha
    exact q.1.1
  obtain ⟨fl, fr, fn, pl, pr, pn, fo, po, tq, g⟩ := g
  have hNB := hd.2.2.1
  have hNh := hd.2.1
  have hwl := wl_le b he
  have hes := sSk_ge n b e
  have f8 := hs.1.1
  have p8 := hs.1.2.1
  unfold rBelS
  rw [r_F6s hq, vA_s, g.F hNB c (k := 5) rfl, vA_s, vA_s, g.F hNB c (k := 5) rfl, vA_s, r_cls, ckc_s]
  obtain ⟨c1, h1, ⟨x1, x2, x3, x4, x5⟩, M⟩ := y_known (D := D) (cap := cap) (c := c) (kd := 1) (by decide) hd ha hNB hNh g.2.2.2.1 (fun h2 p q1 q2 => g.nmP hNB hs q1 q2) hs (by omega) (by omega)
  have hd1 := hd.gr x2 x3
  have x21 := x2.1
  have x22 := x2.2.1
  cases qn : rOneJ n b (tK s) (tNm s) 1 (sSk n b e) with
  | inl gg =>
    rw [qn] at M
    obtain ⟨m1, m2⟩ := M
    rw [sbd_l, m1, bnx_r]
    exact ⟨c1, h1, x1.rt, fun a ha => x2.2.2 a (by omega), x21, x22, x3, rfl, m2, by omega, by omega⟩
  | inr pp =>
    obtain ⟨u, e1⟩ := pp
    rw [qn] at M
    obtain ⟨m1, m2, m3, m4⟩ := M
    obtain ⟨n0, n1, n2⟩ := rOneJ_r qn
    have n0 : u.1 < kP (tK s) := n0
    have n3 := rOneJ_e qn
    have ewl : wl n b e = e1 - sSk n b e := by unfold wl; rw [n3]
    have hwl1 := wl_le b n2
    have he1 := sSk_ge n b e1
    have q1 : cQ c1 7 6 = some sa := by rw [x1.q]; exact hq
    have g1 := g.gr x2
    have l1 := g1.ppl hNB c1
    obtain ⟨b1, b2, nn, b3⟩ := g1.per hNB c1 n0
    rw [m1, bnx_l, l_cls l1, ckc_s, l_get l1 n0, bnd_s, qS_s, pCls_of b3, ckc_s, r_F6s q1, vA_s, g1.F hNB c1 (k := 4) rfl, vA_s, r_cls, ckc_s, sbd_r]
    obtain ⟨c2, h2, ⟨y1, y2, y3, y4, y5⟩, M2⟩ := y_known (D := D) (cap := cap) (c := c1) (kd := 0) (by decide) hd1 m4 hNB (by omega) g1.2.2.1 (fun h2 p q1 q2 => g1.nmF hNB hs q1 q2) hs (by omega) (by omega)
    have hd2 := hd1.gr y2 y3
    have y21 := y2.1
    have y22 := y2.2.1
    cases qm : rOneJ n b (tK s) (tNm s) 0 (sSk n b e1) with
    | inl gg =>
      rw [qm] at M2
      obtain ⟨u1, u2⟩ := M2
      rw [sbd_l, u1, bnx_r]
      exact ⟨c2, h2, (x1.tr y1).rt, fun a ha => by rw [y2.2.2 a (by omega), x2.2.2 a (by omega)], by omega, by omega, y3, rfl, u2, by omega, by omega⟩
    | inr pp =>
      obtain ⟨f, e2⟩ := pp
      rw [qm] at M2
      obtain ⟨u1, u2, u3, u4⟩ := M2
      obtain ⟨k0, k1, k2⟩ := rOneJ_r qm
      have k0 : f.1 < kF (tK s) := k0
      have k3 := rOneJ_e qm
      have ewl1 : wl n b e1 = e2 - sSk n b e1 := by unfold wl; rw [k3]
      have g2 := g1.gr y2
      obtain ⟨b4, b5, nn2, b6⟩ := g2.per hNB c2 n0
      have w8 : tR s u.1 < 256 ∧ tW s u.1 < 256 := by
        obtain ⟨-, g2, g3, -⟩ := hs.2.1.2.2 u.1 n0
        have : 2 ^ kF (tK s) ≤ 2 ^ 8 := Nat.pow_le_pow_right (by decide) f8
        exact ⟨Nat.lt_of_lt_of_le g2 this, Nat.lt_of_lt_of_le g3 this⟩
      have o8 : tR s u.1 ||| tW s u.1 < 256 := Nat.or_lt_two_pow (n := 8) w8.1 w8.2
      rw [u1, bnx_l, pF_of (k := 3) b6 rfl, vI_s, pF_of (k := 4) b6 rfl, vI_s, nI_or, has_v o8 (show f.1 < 8 by omega), bnd_s, sbd_r]
      by_cases cb : (tR s u.1 ||| tW s u.1).testBit f.1 = true
      · rw [cb, if_neg (show ¬ bI true = 0 by decide), if_pos rfl, r_F3, vI_s, u3, r_cls, ckc_s, show (3 : Int32) = nI 3 from rfl, x_wrong, bnd_s]
        obtain ⟨p1, p2, p3⟩ := cFlt_po (n := n) (b := b) (x1.tr y1) 3 f.2
        exact ⟨_, h2, p1.rt, fun a ha => by rw [y2.2.2 a (by omega), x2.2.2 a (by omega)], by omega, by omega, y3, rfl, ⟨p2, p3⟩, by omega, by omega⟩
      · have cb' : (tR s u.1 ||| tW s u.1).testBit f.1 = false := by
          cases q : (tR s u.1 ||| tW s u.1).testBit f.1 with
          | false => rfl
          | true => exact absurd q cb
        have hw2 : wH h2 p w := hw.gr (by rw [y2.2.2 p (by omega), x2.2.2 p (by omega)]) (by rw [y2.2.2 (p + 1) (by omega), x2.2.2 (p + 1) (by omega)])
        have tw : tP (outB B) h2 p w := hw2.t (Or.inr (Or.inr (by omega))) (Or.inr (Or.inr (by omega)))
        rw [cb', if_pos (show bI false = 0 by decide), if_neg (show ¬ false = true by decide), tP_cls (fun _ q => q) tw, ckc_s, y_eq hd2 hd2.2.2.2 hp tw (i := 2) (by decide), bnd_s]
        have eK : kWd.getD 2 [] = wKnow := rfl
        rw [eK]
        have op : outB B (po u.1) := Or.inr (Or.inr (by omega))
        by_cases cw : w = wKnow
        · rw [decide_eq_true cw, if_neg (show ¬ bI true = 0 by decide), if_pos rfl, pF_of (k := 3) b6 rfl, vI_s, s_or _ w8.1 _ (show f.1 < 8 by omega)]
          obtain ⟨nn3, z1, z2⟩ := sc_putP g2 (s' := sRgt s u.1 f.1) rfl rfl n0 (fun q hq => ⟨rfl, va_up_ne _ _ hq, rfl⟩)
          have e1 : tM (sRgt s u.1 f.1) u.1 = tM s u.1 := rfl
          have e2' : tR (sRgt s u.1 f.1) u.1 = tR s u.1 ||| 2 ^ f.1 := va_up_self _ _ _
          have e3 : tW (sRgt s u.1 f.1) u.1 = tW s u.1 := rfl
          rw [e1, e2', e3] at z2
          rw [mk_pO op z1 (show 3 < 5 by decide), bnv_s]
          exact ⟨c2, _, (x1.tr y1).rt, fun a ha => by rw [pE_ne _ (by omega), y2.2.2 a (by omega), x2.2.2 a (by omega)], by show h.1 ≤ h2.1; omega, by show h.2.1 ≤ h2.2.1; omega, y3.put (by omega) _, rfl, by rw [u2]; exact m2, u4, ⟨_, _, _, _, _, _, _, _, _, z2⟩, by show h2.1 + _ ≤ _; omega, by show h2.2.1 + _ ≤ _; omega⟩
        · rw [decide_eq_false cw, if_pos (show bI false = 0 by decide), if_neg (show ¬ false = true by decide), pF_of (k := 4) b6 rfl, vI_s, s_or _ w8.2 _ (show f.1 < 8 by omega)]
          obtain ⟨nn3, z1, z2⟩ := sc_putP g2 (s' := sWrg s u.1 f.1) rfl rfl n0 (fun q hq => ⟨rfl, rfl, va_up_ne _ _ hq⟩)
          have e1 : tM (sWrg s u.1 f.1) u.1 = tM s u.1 := rfl
          have e2' : tR (sWrg s u.1 f.1) u.1 = tR s u.1 := rfl
          have e3 : tW (sWrg s u.1 f.1) u.1 = tW s u.1 ||| 2 ^ f.1 := va_up_self _ _ _
          rw [e1, e2', e3] at z2
          rw [mk_pO op z1 (show 4 < 5 by decide), bnv_s]
          exact ⟨c2, _, (x1.tr y1).rt, fun a ha => by rw [pE_ne _ (by omega), y2.2.2 a (by omega), x2.2.2 a (by omega)], by show h.1 ≤ h2.1; omega, by show h.2.1 ≤ h2.2.1; omega, y3.put (by omega) _, rfl, by rw [u2]; exact m2, u4, ⟨_, _, _, _, _, _, _, _, _, z2⟩, by show h2.1 + _ ≤ _; omega, by show h2.2.1 + _ ≤ _; omega⟩
theorem isBy_L {c : CZ} {h : PH} {sa fl fr fn pl pr pn cnt : Nat} {fo po : Nat → Nat} {tq : Nat → Option Nat} {s : ST} (g : scO B N h sa fl fr fn pl pr pn fo po tq s cnt) (hN : B + 841 ≤ N) (h8 : kP (tK s) ≤ 8) (hM : ∀ p, p < kP (tK s) → tM s p ≤ kP (tK s)) {p : Nat} (hp : p < kP (tK s)) (k : Int32 → PH → Option (Bool × PH)) (dm : Int32 → PH → Option (Bool × PH)) : ∀ (m a : Nat), a ≤ kP (tK s) → wUp (tM s) m a = 0 → ∀ f, m < f →
    fx (fX1_isBy_L2 sa (nI p) k) dm f (nI a - 1) (mk B c h) = k (if sBy (tM s) m a p = true then nI p else -1) (mk B c h)
  | m, a, ha, hu, 0, hf => absurd hf (Nat.not_lt_zero _)
  | m, a, ha, hu, f + 1, hf => by
    have ep : nI p = nI (p + 1) - 1 := (nI_pred p).symm
    have IH := fun m' a' h1 h2 h3 => isBy_L (c := c) g hN h8 hM hp k dm m' a' h1 h2 f h3
    rw [fx_s]
    generalize fx (fX1_isBy_L2 sa (nI p) k) dm f = S at IH ⊢
    unfold fX1_isBy_L2
    by_cases c0 : a = 0
    · have e : sBy (tM s) m a p = false := by
        rw [c0]
        cases m with
        | zero => exact decide_eq_false (by omega)
        | succ m => rfl
      rw [e, c0, if_pos (by decide), if_neg (by decide)]
      rfl
    · rw [if_neg (m1_ne c0 (by omega))]
      by_cases c1 : a = p + 1
      · have e : sBy (tM s) m a p = true := by
          rw [c1]
          cases m with
          | zero => exact decide_eq_true rfl
          | succ m =>
            show (if p + 1 = 0 then false else if p + 1 = p + 1 then true else _) = true
            rw [if_neg (by omega), if_pos rfl]
        rw [e, if_pos rfl, c1, nI_pred, if_pos rfl]
      · obtain ⟨b1, b2, nn, b3⟩ := g.per hN c (p := a - 1) (by omega)
        have l1 := g.ppl hN c
        rw [if_neg (fun g => c1 ((m1_inj (by omega) (by omega)).mp (by rw [g, ep]))), g.F hN c (k := 5) rfl, vA_s, l_cls l1, ckc_s, nI_m1 (by omega), l_get l1 (show a - 1 < kP (tK s) by omega), bnd_s, qS_s, pCls_of b3, ckc_s, pF_of (k := 2) b3 rfl, vI_s]
        cases m with
        | zero => exact absurd hu c0
        | succ m =>
          rw [wUp_S _ _ _ c0] at hu
          rw [IH m (tM s (a - 1)) (hM _ (by omega)) hu (by omega)]
          have e : sBy (tM s) (m + 1) a p = sBy (tM s) m (tM s (a - 1)) p := by
            show (if a = 0 then false else if a = p + 1 then true else sBy (tM s) m (tM s (a - 1)) p) = _
            rw [if_neg c0, if_neg c1]
          rw [e]
theorem y_tau {c : CZ} {h : PH} {e sa cnt : Nat} {s : ST} (hd : rdS D B N h) (ha : cAs n b e c) (he : e ≤ n) (hq : cQ c 7 6 = some sa) (g : scW B N h sa s cnt) (hs : stOk s) (r1 : h.1 + 60 * (n - e) + 100 ≤ cap.1) (r2 : h.2.1 + 800 * (n - e) + 40000 ≤ cap.2) :
    stP B N n b true (
              vA (pF (mk B c h) (B + 7) 2 6) fun p27 =>
              vA (pF (mk B c h) p27 1 5) fun p28 =>
              ckc (pCls (mk B c h) (B + 7)) 2 <|
              bnx (fX2_known D cap (B + 7) p28 (mk B c h)) fun r16 h35 =>
              vA (pF h35 (B + 7) 2 6) fun p29 =>
              vA (pF h35 p29 1 5) fun p30 =>
              ckc (pCls h35 p30) 21 <|
              bnd (fJ2_get p30 r16 h35) fun q3 h36 =>
              qS q3 fun n3 =>
              ckc (pCls h36 n3) 8 <|
              vI (pF h36 n3 8 2) fun v11 =>
              if v11 = ((-1) : Int32) then
                ckc (pCls h36 (B + 7)) 2 <|
                bnx (fX2_word_2 D cap (B + 7) (dK D 7) h36) fun u3 h37 =>
                vA (pF h37 (B + 7) 2 6) fun p31 =>
                vA (pF h37 p31 1 5) fun p32 =>
                ckc (pCls h37 (B + 7)) 2 <|
                bnx (fX2_known D cap (B + 7) p32 h37) fun r17 h38 =>
                vA (pF h38 (B + 7) 2 6) fun p33 =>
                ckc (pCls h38 p33) 1 <|
                bnd (fX1_isBy p33 r17 r16 h38) fun r18 h39 =>
                if (bI r18) = 0 then
                  vA (pF h39 (B + 7) 2 6) fun p34 =>
                  vA (pF h39 p34 1 5) fun p35 =>
                  ckc (pCls h39 p35) 21 <|
                  bnd (fJ2_get p35 r16 h39) fun q4 h40 =>
                  qS q4 fun n4 =>
                  ckc (pCls h40 n4) 8 <|
                  bnv (pPut h40 n4 8 2 (.int r17)) fun h41 =>
                  (some (.inl true, h41) : Option ((Bool ⊕ Nat) × PH))
                else
                  vI (pF h39 (B + 7) 2 3) fun v12 =>
                  ckc (pCls h39 (B + 7)) 2 <|
                  bnd (fX2_wrong (B + 7) 3 v12 h39) fun p36 h42 =>
                  some (.inr p36, h42)
              else
                vI (pF h36 (B + 7) 2 3) fun v13 =>
                ckc (pCls h36 (B + 7)) 2 <|
                bnd (fX2_wrong (B + 7) 3 v13 h36) fun p37 h43 =>
                some (.inr p37, h43)) c h e sa cnt (rTauS n b s e) := by
  have hn : n ≤ 1600 := by
    obtain ⟨a, q, -⟩ := ha
    exact q.1.1
  obtain ⟨fl, fr, fn, pl, pr, pn, fo, po, tq, g⟩ := g
  have hNB := hd.2.2.1
  have hNh := hd.2.1
  have hwl := wl_le b he
  have hes := sSk_ge n b e
  have f8 := hs.1.1
  have p8 := hs.1.2.1
  have hM : ∀ p, p < kP (tK s) → tM s p ≤ kP (tK s) := fun q hq => (hs.2.1.2.2 q hq).1
  unfold rTauS
  rw [r_F6s hq, vA_s, g.F hNB c (k := 5) rfl, vA_s, r_cls, ckc_s]
  obtain ⟨c1, h1, ⟨x1, x2, x3, x4, x5⟩, M⟩ := y_known (D := D) (cap := cap) (c := c) (kd := 1) (by decide) hd ha hNB hNh g.2.2.2.1 (fun h2 p q1 q2 => g.nmP hNB hs q1 q2) hs (by omega) (by omega)
  have hd1 := hd.gr x2 x3
  have x21 := x2.1
  have x22 := x2.2.1
  cases qn : rOneJ n b (tK s) (tNm s) 1 (sSk n b e) with
  | inl gg =>
    rw [qn] at M
    obtain ⟨m1, m2⟩ := M
    rw [sbd_l, m1, bnx_r]
    exact ⟨c1, h1, x1.rt, fun a ha => x2.2.2 a (by omega), x21, x22, x3, rfl, m2, by omega, by omega⟩
  | inr pp =>
    obtain ⟨u, e1⟩ := pp
    rw [qn] at M
    obtain ⟨m1, m2, m3, m4⟩ := M
    obtain ⟨n0, n1, n2⟩ := rOneJ_r qn
    have n0 : u.1 < kP (tK s) := n0
    have n3 := rOneJ_e qn
    have ewl : wl n b e = e1 - sSk n b e := by unfold wl; rw [n3]
    have hwl1 := wl_le b n2
    have he1 := sSk_ge n b e1
    have q1 : cQ c1 7 6 = some sa := by rw [x1.q]; exact hq
    have g1 := g.gr x2
    have l1 := g1.ppl hNB c1
    obtain ⟨b1, b2, nn, b3⟩ := g1.per hNB c1 n0
    have hMu := hM u.1 n0
    rw [m1, bnx_l, r_F6s q1, vA_s, g1.F hNB c1 (k := 5) rfl, vA_s, l_cls l1, ckc_s, l_get l1 n0, bnd_s, qS_s, pCls_of b3, ckc_s, pF_of (k := 2) b3 rfl, vI_s, sbd_r]
    by_cases c0 : tM s u.1 = 0
    · rw [c0, if_pos (show nI 0 - 1 = -1 by decide), if_pos rfl, r_cls, ckc_s]
      obtain ⟨c2, h2, ⟨y1, y2, y3, y4, y5⟩, M2⟩ := y_word2 (D := D) (cap := cap) (c := c1) hd1 m4 (i := 7) (by decide) (by omega) (by omega)
      have eK : kWd.getD 7 [] = wBy := rfl
      rw [eK] at M2
      have hd2 := hd1.gr y2 y3
      have y21 := y2.1
      have y22 := y2.2.1
      cases qa : rAsk n b wBy e1 with
      | inl gg =>
        rw [qa] at M2
        obtain ⟨u1, u2⟩ := M2
        rw [sbd_l, u1, bnx_r]
        exact ⟨c2, h2, (x1.tr y1).rt, fun a ha => by rw [y2.2.2 a (by omega), x2.2.2 a (by omega)], by omega, by omega, y3, rfl, u2, by omega, by omega⟩
      | inr pp =>
        obtain ⟨_, e2⟩ := pp
        rw [qa] at M2
        obtain ⟨u1, u2, u3⟩ := M2
        obtain ⟨k1, k2⟩ := rAsk_r qa
        have k3 := rAsk_e qa
        have ewl1 : wl n b e1 = e2 - sSk n b e1 := by unfold wl; rw [k3]
        have hwl2 := wl_le b k2
        have he2 := sSk_ge n b e2
        have q2 : cQ c2 7 6 = some sa := by rw [y1.q]; exact q1
        have g2 := g1.gr y2
        rw [sbd_r, u1, bnx_l, r_F6s q2, vA_s, g2.F hNB c2 (k := 5) rfl, vA_s, r_cls, ckc_s]
        obtain ⟨c3, h3, ⟨z1, z2, z3, z4, z5⟩, M3⟩ := y_known (D := D) (cap := cap) (c := c2) (kd := 1) (by decide) hd2 u3 hNB (by omega) g2.2.2.2.1 (fun h2 p q1 q2 => g2.nmP hNB hs q1 q2) hs (by omega) (by omega)
        have z21 := z2.1
        have z22 := z2.2.1
        have rd3 := (x1.tr y1).tr z1
        have fr3 : ∀ a, a < N → h3.2.2 a = h.2.2 a := fun a ha => by rw [z2.2.2 a (by omega), y2.2.2 a (by omega), x2.2.2 a (by omega)]
        cases qm : rOneJ n b (tK s) (tNm s) 1 (sSk n b e2) with
        | inl gg =>
          rw [qm] at M3
          obtain ⟨u1, u2⟩ := M3
          rw [sbd_l, u1, bnx_r]
          exact ⟨c3, h3, rd3.rt, fr3, by omega, by omega, z3, rfl, u2, by omega, by omega⟩
        | inr pp =>
          obtain ⟨m, e3⟩ := pp
          rw [qm] at M3
          obtain ⟨v1, v2, v3, v4⟩ := M3
          obtain ⟨o0, o1, o2⟩ := rOneJ_r qm
          have o0 : m.1 < kP (tK s) := o0
          have o3 := rOneJ_e qm
          have ewl2 : wl n b e2 = e3 - sSk n b e2 := by unfold wl; rw [o3]
          have q3 : cQ c3 7 6 = some sa := by rw [z1.q]; exact q2
          have g3 := g2.gr z2
          have l3 := g3.ppl hNB c3
          obtain ⟨b4, b5, nn2, b6⟩ := g3.per hNB c3 n0
          have osa : outB B sa := Or.inr (Or.inr (by have := g3.1.1; omega))
          have csa : pCls (mk B c3 h3) sa = some 1 := pCls_of (b := true) (by rw [mk_out osa]; exact g3.2.1)
          have L : fX1_isBy sa (nI m.1) (nI u.1) (mk B c3 h3) = some (sBy (tM s) 8 (m.1 + 1) u.1, mk B c3 h3) := by
            unfold fX1_isBy
            rw [jn_s]
            have L := isBy_L (c := c3) g3 hNB p8 hM n0 (fun (x1 : Int32) (h1 : PH) => if x1 = nI u.1 then some (true, h1) else some (false, h1)) (fun _ _ => none) 8 (m.1 + 1) o0 (hs.2.1.up8 hs.1 o0) FU (FU_gt (by decide))
            rw [nI_pred] at L
            rw [L]
            show (if (if sBy (tM s) 8 (m.1 + 1) u.1 = true then nI u.1 else -1) = nI u.1 then some (true, mk B c3 h3) else some (false, mk B c3 h3)) = _
            cases cc : sBy (tM s) 8 (m.1 + 1) u.1 with
            | true => rw [if_pos rfl, if_pos rfl]
            | false => rw [if_neg (show ¬ false = true by decide), if_neg (fun g => nI_nm1 (by omega) g.symm)]
          rw [v1, bnx_l, r_F6s q3, vA_s, csa, ckc_s, L, bnd_s, sbd_r]
          by_cases cc : sBy (tM s) 8 (m.1 + 1) u.1 = true
          · rw [cc, if_neg (show ¬ bI true = 0 by decide), if_pos rfl, r_F3, vI_s, v3, r_cls, ckc_s, show (3 : Int32) = nI 3 from rfl, x_wrong, bnd_s]
            obtain ⟨p1, p2, p3⟩ := cFlt_po (n := n) (b := b) rd3 3 m.2
            exact ⟨_, h3, p1.rt, fr3, by omega, by omega, z3, rfl, ⟨p2, p3⟩, by omega, by omega⟩
          · have cc' : sBy (tM s) 8 (m.1 + 1) u.1 = false := by
              cases q : sBy (tM s) 8 (m.1 + 1) u.1 with
              | false => rfl
              | true => exact absurd q cc
            obtain ⟨nn3, t1, t2⟩ := sc_putP g3 (s' := sMst' s u.1 m.1) rfl rfl n0 (fun q hq => ⟨va_up_ne _ _ hq, rfl, rfl⟩)
            have e1' : tM (sMst' s u.1 m.1) u.1 = m.1 + 1 := va_up_self _ _ _
            have e2' : tR (sMst' s u.1 m.1) u.1 = tR s u.1 := rfl
            have e3' : tW (sMst' s u.1 m.1) u.1 = tW s u.1 := rfl
            rw [e1', e2', e3', nI_pred] at t2
            rw [cc', if_pos (show bI false = 0 by decide), if_neg (show ¬ false = true by decide), r_F6s q3, vA_s, g3.F hNB c3 (k := 5) rfl, vA_s, l_cls l3, ckc_s, l_get l3 n0, bnd_s, qS_s, pCls_of b6, ckc_s, mk_pO (Or.inr (Or.inr (by omega))) t1 (show 2 < 5 by decide), bnv_s]
            exact ⟨c3, _, rd3.rt, fun a ha => by rw [pE_ne _ (by omega)]; exact fr3 a ha, by show h.1 ≤ h3.1; omega, by show h.2.1 ≤ h3.2.1; omega, z3.put (by omega) _, rfl, by rw [v2, u2]; exact m2, v4, ⟨_, _, _, _, _, _, _, _, _, t2⟩, by show h3.1 + _ ≤ _; omega, by show h3.2.1 + _ ≤ _; omega⟩
    · rw [if_neg (m1_ne c0 (by omega)), if_neg c0, r_F3, vI_s, m3, r_cls, ckc_s, show (3 : Int32) = nI 3 from rfl, x_wrong, bnd_s]
      obtain ⟨p1, p2, p3⟩ := cFlt_po (n := n) (b := b) x1 3 u.2
      exact ⟨_, h1, p1.rt, fun a ha => x2.2.2 a (by omega), by omega, by omega, x3, rfl, ⟨p2, p3⟩, by omega, by omega⟩
end TB
