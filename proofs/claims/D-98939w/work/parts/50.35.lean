/-! PART 35: plain: a statement's word decides -/
set_option maxRecDepth 100000
section TC
variable {B N n : Nat} {b : Nat → Nat} {D : PD} {cap : Nat × Nat}
theorem stP.pre {β : Type} {r : β} {X : Option ((β ⊕ Nat) × PH)} {c : CZ} {h h1 : PH} {e sa cnt : Nat} {R : RS ST} (g : stP B N n b r X c h1 e sa cnt R) (e1 : h1.1 = h.1) (e2 : h1.2.1 = h.2.1) (e3 : ∀ a, a < N → h1.2.2 a = h.2.2 a) : stP B N n b r X c h e sa cnt R := by
  obtain ⟨c', h', g1, g2, g3, g4, g5, g6⟩ := g
  rw [e1] at g3
  rw [e2] at g4
  rw [e1, e2] at g6
  exact ⟨c', h', g1, fun a ha => (g2 a ha).trans (e3 a ha), g3, g4, g5, g6⟩
/-- the word's hash is told: the school stays -/
theorem y_hashed {c : CZ} {h0 h : PH} {sa cnt p : Nat} {s : ST} {w : List Nat} (hd : rdS D B N h) (g : scW B N h0 sa s cnt) (hg : hGr h0 h) (hp0 : h0.1 ≤ p) (hp1 : p + 1 < h.1) (hw : wH h p w) :
    ∃ h1, fJ6_hashCode D cap p (mk B c h) = some (hsh w, mk B c h1) ∧ wH h1 p w ∧ h1.1 = h.1 ∧ h1.2.1 = h.2.1 ∧ (∀ a, a < N → h1.2.2 a = h.2.2 a) ∧ hGr h0 h1 ∧ rdS D B N h1 ∧ scW B N h1 sa s cnt ∧ N ≤ p := by
  have hNB := hd.2.2.1
  have hNp : N ≤ p := by
    obtain ⟨fl, fr, fn, pl, pr, pn, fo, po, tq, g⟩ := g
    have := g.1
    omega
  obtain ⟨h1, x1, x2, x3, x4, x5⟩ := x_hash (B := B) (D := D) (cap := cap) (c := c) hd.2.2.2.1 (show B + 841 ≤ p by omega) hw
  have g1 : hGr h0 h1 := ⟨by rw [x3]; exact hg.1, by rw [x4]; exact hg.2.1, fun a ha => by rw [x5 a (by omega)]; exact hg.2.2 a ha⟩
  have fr : ∀ a, a < N → h1.2.2 a = h.2.2 a := fun a ha => x5 a (by omega)
  have w1 : hW B h1 := ⟨by rw [x3]; exact hd.1.1, fun a ha => by rw [x3] at ha; rw [x5 a (by omega)]; exact hd.1.2 a ha⟩
  exact ⟨h1, x1, x2, x3, x4, fr, g1, hd.fr w1 (by omega) fr, g.gr g1, hNp⟩
theorem y_people {c : CZ} {h0 h : PH} {j e sa cnt p : Nat} {s : ST} {w : List Nat} (hd : rdS D B N h) (ha : cAs n b e c) (he : e ≤ n) (hq : cQ c 7 6 = some sa) (g : scW B N h0 sa s cnt) (hg : hGr h0 h) (hp0 : h0.1 ≤ p) (hp1 : p + 1 < h.1) (hw : wH h p w) (hs : stOk s) (r1 : h.1 + 60 * (n - e) + 100 ≤ cap.1) (r2 : h.2.1 + 800 * (n - e) + 40000 ≤ cap.2) :
    if w = wFact ∨ w = wPers ∨ w = wKnow ∨ w = wErrs ∨ w = wTaug then stP B N n b true (fX2_people D cap (B + 7) p (nI j) (mk B c h)) c h e sa cnt (rStmW n b s w j e)
    else ∃ h1, fX2_people D cap (B + 7) p (nI j) (mk B c h) = some (.inl false, mk B c h1) ∧ wH h1 p w ∧ hGr h0 h1 ∧ hW B h1 ∧ h1.1 = h.1 ∧ h1.2.1 = h.2.1 ∧ ∀ a, a < N → h1.2.2 a = h.2.2 a := by
  obtain ⟨h1, x1, x2, x3, x4, x5, x6, x7, x8, x9⟩ := y_hashed (D := D) (cap := cap) (c := c) hd g hg hp0 hp1 hw
  have tw0 : tP (outB B) h p w := hw.t (Or.inr (Or.inr (by have := hd.2.2.1; omega))) (Or.inr (Or.inr (by have := hd.2.2.1; omega)))
  have tw : tP (outB B) h1 p w := x2.t (Or.inr (Or.inr (by have := hd.2.2.1; omega))) (Or.inr (Or.inr (by have := hd.2.2.1; omega)))
  have S := fun K : Int32 → PH → Option ((Bool ⊕ Nat) × PH) => sw_people (D := D) (w := w) (p := p) (y := mk B c h1) (tP_cls (fun _ q => q) tw) (fun i hi => y_eq x7 x7.2.2.2 x9 tw hi) K
  unfold fX2_people
  rw [tP_cls (fun _ q => q) tw0, ckc_s, x1, bnd_s, S]
  have r1' : h1.1 + 60 * (n - e) + 100 ≤ cap.1 := by omega
  have r2' : h1.2.1 + 800 * (n - e) + 40000 ≤ cap.2 := by omega
  have hp1' : p + 1 < h1.1 := by omega
  by_cases c1 : w = wFact
  · rw [if_pos (Or.inl c1)]
    have es : swP w = 0 := by rw [c1]; decide
    have er : rStmW n b s w j e = rFactS n b s j e := by unfold rStmW; rw [if_pos c1]
    rw [es, er, if_pos rfl]
    exact (y_addF x7 ha he hq x8 hs r1' r2').pre x3 x4 x5
  by_cases c2 : w = wPers
  · rw [if_pos (Or.inr (Or.inl c2))]
    have es : swP w = 1 := by rw [c2]; decide
    have er : rStmW n b s w j e = rPersS n b s j e := by unfold rStmW; rw [if_neg c1, if_pos c2]
    rw [es, er, if_neg (by decide), if_pos rfl]
    exact (y_addP x7 ha he hq x8 hs r1' r2').pre x3 x4 x5
  by_cases c3 : w = wKnow
  · rw [if_pos (Or.inr (Or.inr (Or.inl c3)))]
    have es : swP w = 2 := by rw [c3]; decide
    have er : rStmW n b s w j e = rBelS n b s (decide (w = wKnow)) e := by unfold rStmW; rw [if_neg c1, if_neg c2, if_pos c3, decide_eq_true c3]
    rw [es, er, if_neg (by decide), if_neg (by decide), if_pos rfl]
    exact (y_bel x7 ha he hq x8 hs x9 hp1' x2 r1' r2').pre x3 x4 x5
  by_cases c4 : w = wErrs
  · rw [if_pos (Or.inr (Or.inr (Or.inr (Or.inl c4))))]
    have es : swP w = 3 := by rw [c4]; decide
    have er : rStmW n b s w j e = rBelS n b s (decide (w = wKnow)) e := by unfold rStmW; rw [if_neg c1, if_neg c2, if_neg c3, if_pos c4, decide_eq_false c3]
    rw [es, er, if_neg (by decide), if_neg (by decide), if_neg (by decide), if_pos rfl]
    exact (y_bel x7 ha he hq x8 hs x9 hp1' x2 r1' r2').pre x3 x4 x5
  by_cases c5 : w = wTaug
  · rw [if_pos (Or.inr (Or.inr (Or.inr (Or.inr c5))))]
    have es : swP w = 4 := by rw [c5]; decide
    have er : rStmW n b s w j e = rTauS n b s e := by unfold rStmW; rw [if_neg c1, if_neg c2, if_neg c3, if_neg c4, if_pos c5]
    rw [es, er, if_neg (by decide), if_neg (by decide), if_neg (by decide), if_neg (by decide), if_pos rfl]
    exact (y_tau x7 ha he hq x8 hs r1' r2').pre x3 x4 x5
  · have es : swP w = -1 := by unfold swP; rw [if_neg c2, if_neg c5, if_neg c4, if_neg c1, if_neg c3]
    rw [if_neg (by rintro (q | q | q | q | q); exact c1 q; exact c2 q; exact c3 q; exact c4 q; exact c5 q), es, if_neg (by decide), if_neg (by decide), if_neg (by decide), if_neg (by decide), if_neg (by decide)]
    exact ⟨h1, rfl, x2, x6, x7.1, x3, x4, x5⟩
theorem cAs.p5 {j : Nat} {c : CZ} (g : cAs n b j c) (v : Int32) : cAs n b j (xI c 7 5 v) := by
  obtain ⟨a, ⟨⟨a1, a4, a5⟩, a2, a3⟩, ea⟩ := g
  exact ⟨a, ⟨⟨a1, fun i hi => by rw [cI_xI_ne _ (by omega)]; exact a4 i hi, by rw [cI_xI_ne _ (by omega)]; exact a5⟩, by rw [cI_xI_ne _ (by omega)]; exact a2, a3⟩, ea⟩
theorem scO.nw {h : PH} {sa fl fr fn pl pr pn cnt hi a : Nat} {fo po : Nat → Nat} {tq : Nat → Option Nat} {s : ST} (g : scO B N h sa fl fr fn pl pr pn fo po tq s cnt) (ha : iv h.1 hi a) : scQ N hi sa fl fr pl pr po (kP (tK s)) a := by
  obtain ⟨⟨a1, a2⟩, a3, g1, g2, d, g4, g5, g6, g7⟩ := g
  have ha1 := ha.1
  have ha2 := ha.2
  have g11 := g1.1.2
  have g12 := g1.2.1.2.1
  have g21 := g2.1.2
  have g22 := g2.2.1.2.1
  refine ⟨⟨by omega, ha2⟩, ⟨by omega, by omega, by omega, by omega, by omega⟩, fun p hp => ?_⟩
  obtain ⟨⟨q1, -⟩, -⟩ := g5 p hp
  have := q1.2
  omega
/-- one of the three tests -/
theorem y_once {c : CZ} {h : PH} {j e sa cnt i : Nat} {s : ST} (hi : i < 3) (hd : rdS D B N h) (ha : cAs n b e c) (he : e ≤ n) (hq : cQ c 7 6 = some sa) (h4 : cI c 7 4 = nI 0) (g : scW B N h sa s cnt) (r1 : h.1 + 60 * (n - e) + 100 ≤ cap.1) (r2 : h.2.1 + 800 * (n - e) + 40000 ≤ cap.2) :
    stP B N n b () (
      vA (pF (mk B c h) (B + 7) 2 6) fun p1 =>
      vA (pF (mk B c h) (B + 7) 2 6) fun p2 =>
      vQ (pF (mk B c h) p2 1 (6 + i)) fun q1 =>
      ckc (pCls (mk B c h) (B + 7)) 2 <|
      bnx (fX2_once D cap (B + 7) q1 (nI j) (mq (kdOf i)) (mk B c h)) fun p3 h3 =>
      bnv (pPut h3 p1 1 (6 + i) (.ref p3)) fun h4 =>
      (some (.inl (), h4) : Option ((Unit ⊕ Nat) × PH))) c h e sa cnt (rTstS n b s i j e) := by
  have hn : n ≤ 1600 := by
    obtain ⟨a, q, -⟩ := ha
    exact q.1.1
  obtain ⟨fl, fr, fn, pl, pr, pn, fo, po, tq, g⟩ := g
  have hNB := hd.2.2.1
  have hNh := hd.2.1
  have hkd : kdOf i < 3 := by unfold kdOf; split <;> omega
  have F6 : pF (mk B c h) sa 1 (6 + i) = some (va_rf (tq i)) := by
    rcases (show i = 0 ∨ i = 1 ∨ i = 2 by omega) with rfl | rfl | rfl
    · exact g.F hNB c (k := 6) rfl
    · exact g.F hNB c (k := 7) rfl
    · exact g.F hNB c (k := 8) rfl
  rw [r_F6s hq, vA_s, vA_s, F6, vQ_s, r_cls, ckc_s]
  unfold rTstS fX2_once
  simp only [jn_s]
  rcases g.2.2.2.2.2.2.2.2 i hi with ⟨q1, q2⟩ | ⟨ct, t, q1, q2, q3⟩
  · rw [q1, q2]
    have T := (y_tests (D := D) (cap := cap) (B := B) (N := N) (n := n) (b := b) hkd hd.2.2.2.1 hn 6 0 10 rfl (by decide)).2
    have rd5 : cRt c (xI c 7 5 (mq (kdOf i))) := ⟨fun o i' h1 h2 => by rw [cI_xI_ne _ (by omega)], rfl⟩
    have as5 := ha.p5 (mq (kdOf i))
    have i54 : cI (xI c 7 5 (mq (kdOf i))) 7 4 = nI 0 := by rw [cI_xI_ne _ (by omega)]; exact h4
    have i55 := cI_xI_eq c 7 5 (mq (kdOf i))
    show stP B N n b () (bnx (qC none (ckc (pCls (mk B c h) (B + 7)) 2 <| bnx (fX2_most (B + 7) false (nI j) (mk B c h)) fun u1 h2 => bnv (pPut h2 (B + 7) 2 5 (.int (mq (kdOf i)))) fun h3 => ckc (pCls h3 (B + 7)) 2 <| bnx (vTestT D cap (B + 7) h3) fun p1 h4 => some (.inl p1, h4)) _) _) c h e sa cnt (sbd (rTest n b (kdOf i) 6 e) fun c e1 => .inr (sTst s i c, e1))
    rw [qC_n, r_cls, ckc_s, x_most, if_neg (show ¬ false = true by decide), bnx_l, r_pI c h 5 (by decide), bnv_s, r_cls, ckc_s]
    generalize xI c 7 5 (mq (kdOf i)) = c1 at rd5 as5 i54 i55
    obtain ⟨c2, h2, v1, v2, v3, v4⟩ := T c1 h e hd as5 he i54 i55 (by omega) (by omega)
    have v21 := v2.1
    have v22 := v2.2.1
    unfold vTestT
    cases qt : rTest n b (kdOf i) 6 e with
    | inl gg =>
      rw [qt] at v4
      obtain ⟨u1, u2, u3, u4⟩ := v4
      rw [u1, bnx_r, bnx_r, sbd_l]
      exact ⟨c2, h2, rd5.tr v1.rt, fun a ha => v2.2.2 a (by omega), v21, v22, v3, rfl, u2, by omega, by omega⟩
    | inr pp =>
      obtain ⟨cs, e'⟩ := pp
      rw [qt] at v4
      obtain ⟨px, u1, u2, u3, u4, u5, u6⟩ := v4
      rw [u1, bnx_l, bnx_l, sbd_r]
      have g2 := g.gr v2
      have osa : outB B sa := Or.inr (Or.inr (by have := g.1.1; omega))
      have tt : tT (scQ N h2.1 sa fl fr pl pr po (kP (tK s))) B 64 h2 px cs := (u4.ups (by decide)).of (fun a ha => ⟨g.nw ha, rfl⟩)
      have Z := sc_putS g2 (s' := sTst s i cs) (cnt' := cnt) (tq' := va_up tq i (some px)) ⟨rfl, rfl, rfl⟩ rfl (fun i' hi' => by
        by_cases ci : i' = i
        · refine Or.inr ⟨cs, px, ?_, by rw [ci, va_up_self], tt⟩
          show va_up (tK s).2.2.2.2 i (some cs) i' = some cs
          rw [ci, va_up_self]
        · refine Or.inl ⟨?_, va_up_ne _ _ ci⟩
          show va_up (tK s).2.2.2.2 i (some cs) i' = _
          rw [va_up_ne _ _ ci]
          rfl)
      have P6 : pPut (mk B c2 h2) sa 1 (6 + i) (.ref px) = some (mk B c2 (pPutE h2 sa (.inr (1, [.int (nI cnt), .int (nI (kSe (tK (sTst s i cs)) 0)), .int (nI (kSe (tK (sTst s i cs)) 1)), .int (nI (kSe (tK (sTst s i cs)) 2)), .ref fl, .ref pl, va_rf (va_up tq i (some px) 0), va_rf (va_up tq i (some px) 1), va_rf (va_up tq i (some px) 2)])))) := by
        rcases (show i = 0 ∨ i = 1 ∨ i = 2 by omega) with rfl | rfl | rfl
        · exact mk_pO osa g2.2.1 (show 6 < 9 by decide) _
        · exact mk_pO osa g2.2.1 (show 7 < 9 by decide) _
        · exact mk_pO osa g2.2.1 (show 8 < 9 by decide) _
      rw [P6, bnv_s]
      have sa1 := g.1.1
      have sa2 := g.1.2
      exact ⟨c2, _, rd5.tr v1.rt, fun a ha => by rw [pE_ne _ (by omega)]; exact v2.2.2 a (by omega), by show h.1 ≤ h2.1; exact v21, by show h.2.1 ≤ h2.2.1; exact v22, by exact v3.put (by omega) _, rfl, by rw [u2, h4], u3, ⟨_, _, _, _, _, _, _, _, _, Z⟩, by show h2.1 + _ ≤ _; omega, by show h2.2.1 + _ ≤ _; omega⟩
  · rw [q1, q2]
    show stP B N n b () (bnx (qC (some t) _ fun n1 => ckc (pCls (mk B c h) (B + 7)) 2 <| bnx (fX2_most (B + 7) true (nI j) (mk B c h)) _) _) c h e sa cnt (.inl (5, j))
    rw [qC_s, r_cls, ckc_s, x_most, if_pos rfl, bnx_r, bnx_r]
    obtain ⟨p1, p2, p3⟩ := cFlt_po (n := n) (b := b) (cRd.rf c) 5 j
    exact ⟨_, h, p1.rt, fun _ _ => rfl, Nat.le_refl _, Nat.le_refl _, hd.1, rfl, ⟨p2, p3⟩, by omega, by omega⟩
/-- one of the three settings -/
theorem y_set {c : CZ} {h : PH} {e sa cnt i hi : Nat} {s : ST} (hi3 : i < 3) (hhi : hi < 10000) (hd : rdS D B N h) (ha : cAs n b e c) (he : e ≤ n) (hq : cQ c 7 6 = some sa) (g : scW B N h sa s cnt) :
    stP B N n b () (
            vA (pF (mk B c h) (B + 7) 2 6) fun p10 =>
            ckc (pCls (mk B c h) (B + 7)) 2 <|
            bnx (fX2_number_2 (B + 7) 0 (nI hi) (mk B c h)) fun r2 h9 =>
            bnv (pPut h9 p10 1 (1 + i) (.int r2)) fun h10 =>
            (some (.inl (), h10) : Option ((Unit ⊕ Nat) × PH))) c h e sa cnt (rSetS n b s i hi e) := by
  obtain ⟨fl, fr, fn, pl, pr, pn, fo, po, tq, g⟩ := g
  have hNB := hd.2.2.1
  obtain ⟨c1, x, M⟩ := y_number2 (N := N) hd.1 ha (lo := 0) (hi := hi) (by decide) hhi
  rw [r_F6s hq, vA_s, r_cls, ckc_s]
  unfold rSetS
  cases qn : rNum n b 0 hi e with
  | inl gg =>
    rw [qn] at M
    obtain ⟨u1, u2⟩ := M
    rw [show fX2_number_2 (B + 7) 0 (nI hi) (mk B c h) = _ from u1, bnx_r, sbd_l]
    exact ⟨c1, h, x.1.rt, fun _ _ => rfl, Nat.le_refl _, Nat.le_refl _, hd.1, rfl, u2, by omega, by omega⟩
  | inr pp =>
    obtain ⟨v, e'⟩ := pp
    rw [qn] at M
    obtain ⟨u1, u2, u3⟩ := M
    have n1 := rNum_r qn
    rw [show fX2_number_2 (B + 7) 0 (nI hi) (mk B c h) = _ from u1, bnx_l, sbd_r]
    have osa : outB B sa := Or.inr (Or.inr (by have := g.1.1; omega))
    have Z := sc_putS g (s' := sSet' s i v) (cnt' := cnt) (tq' := tq) ⟨rfl, rfl, rfl⟩ rfl (fun i' hi' => Or.inl ⟨rfl, rfl⟩)
    have P6 : pPut (mk B c1 h) sa 1 (1 + i) (.int (nI v)) = some (mk B c1 (pPutE h sa (.inr (1, [.int (nI cnt), .int (nI (kSe (tK (sSet' s i v)) 0)), .int (nI (kSe (tK (sSet' s i v)) 1)), .int (nI (kSe (tK (sSet' s i v)) 2)), .ref fl, .ref pl, va_rf (tq 0), va_rf (tq 1), va_rf (tq 2)])))) := by
      rcases (show i = 0 ∨ i = 1 ∨ i = 2 by omega) with rfl | rfl | rfl
      · exact mk_pO osa g.2.1 (show 1 < 9 by decide) _
      · exact mk_pO osa g.2.1 (show 2 < 9 by decide) _
      · exact mk_pO osa g.2.1 (show 3 < 9 by decide) _
    rw [P6, bnv_s]
    have sa1 := g.1.1
    have sa2 := g.1.2
    exact ⟨c1, _, x.1.rt, fun a ha => by exact pE_ne _ (by omega) _, by exact Nat.le_refl _, by exact Nat.le_refl _, by exact hd.1.put (by omega) _, rfl, u2, u3, ⟨_, _, _, _, _, _, _, _, _, Z⟩, by show h.1 + _ ≤ _; omega, by show h.2.1 + _ ≤ _; omega⟩
theorem y_more {c : CZ} {h0 h : PH} {j e sa cnt p : Nat} {s : ST} {w : List Nat} (hd : rdS D B N h) (ha : cAs n b e c) (he : e ≤ n) (hq : cQ c 7 6 = some sa) (h4 : cI c 7 4 = nI 0) (g : scW B N h0 sa s cnt) (hg : hGr h0 h) (hp0 : h0.1 ≤ p) (hp1 : p + 1 < h.1) (hw : wH h p w) (hnp : ¬ (w = wFact ∨ w = wPers ∨ w = wKnow ∨ w = wErrs ∨ w = wTaug)) (r1 : h.1 + 60 * (n - e) + 100 ≤ cap.1) (r2 : h.2.1 + 800 * (n - e) + 40000 ≤ cap.2) :
    stP B N n b () (fX2_more D cap (B + 7) p (nI j) (mk B c h)) c h e sa cnt (rStmW n b s w j e) := by
  obtain ⟨h1, x1, x2, x3, x4, x5, x6, x7, x8, x9⟩ := y_hashed (D := D) (cap := cap) (c := c) hd g hg hp0 hp1 hw
  have tw0 : tP (outB B) h p w := hw.t (Or.inr (Or.inr (by have := hd.2.2.1; omega))) (Or.inr (Or.inr (by have := hd.2.2.1; omega)))
  have tw : tP (outB B) h1 p w := x2.t (Or.inr (Or.inr (by have := hd.2.2.1; omega))) (Or.inr (Or.inr (by have := hd.2.2.1; omega)))
  have S := fun K : Int32 → PH → Option ((Unit ⊕ Nat) × PH) => sw_more (D := D) (w := w) (p := p) (y := mk B c h1) (tP_cls (fun _ q => q) tw) (fun i hi => y_eq x7 x7.2.2.2 x9 tw hi) K
  unfold fX2_more
  rw [tP_cls (fun _ q => q) tw0, ckc_s, x1, bnd_s, S]
  have r1' : h1.1 + 60 * (n - e) + 100 ≤ cap.1 := by omega
  have r2' : h1.2.1 + 800 * (n - e) + 40000 ≤ cap.2 := by omega
  have n1 : ¬ w = wFact := fun q => hnp (Or.inl q)
  have n2 : ¬ w = wPers := fun q => hnp (Or.inr (Or.inl q))
  have n3 : ¬ w = wKnow := fun q => hnp (Or.inr (Or.inr (Or.inl q)))
  have n4 : ¬ w = wErrs := fun q => hnp (Or.inr (Or.inr (Or.inr (Or.inl q))))
  have n5 : ¬ w = wTaug := fun q => hnp (Or.inr (Or.inr (Or.inr (Or.inr q))))
  have e0 : rStmW n b s w j e = if w = wTake then rTstS n b s 0 j e else if w = wGarb then rTstS n b s 1 j e else if w = wSits then rTstS n b s 2 j e
    else if w = wPass then rSetS n b s 0 99 e else if w = wTrie then rSetS n b s 1 9 e else if w = wIll then rSetS n b s 2 100 e else .inl (1, j) := by
    unfold rStmW
    rw [if_neg n1, if_neg n2, if_neg n3, if_neg n4, if_neg n5]
  rw [e0]
  by_cases c1 : w = wTake
  · have es : swM w = 0 := by rw [c1]; decide
    rw [es, if_pos c1, if_pos rfl]
    exact (y_once (i := 0) (by decide) x7 ha he hq h4 x8 r1' r2').pre x3 x4 x5
  rw [if_neg c1]
  by_cases c2 : w = wGarb
  · have es : swM w = 1 := by rw [c2]; decide
    rw [es, if_pos c2, if_neg (by decide), if_pos rfl]
    exact (y_once (i := 1) (by decide) x7 ha he hq h4 x8 r1' r2').pre x3 x4 x5
  rw [if_neg c2]
  by_cases c3 : w = wSits
  · have es : swM w = 2 := by rw [c3]; decide
    rw [es, if_pos c3, if_neg (by decide), if_neg (by decide), if_pos rfl]
    exact (y_once (i := 2) (by decide) x7 ha he hq h4 x8 r1' r2').pre x3 x4 x5
  rw [if_neg c3]
  by_cases c4 : w = wPass
  · have es : swM w = 3 := by rw [c4]; decide
    rw [es, if_pos c4, if_neg (by decide), if_neg (by decide), if_neg (by decide), if_pos rfl]
    exact (y_set (i := 0) (hi := 99) (by decide) (by decide) x7 ha he hq x8).pre x3 x4 x5
  rw [if_neg c4]
  by_cases c5 : w = wTrie
  · have es : swM w = 4 := by rw [c5]; decide
    rw [es, if_pos c5, if_neg (by decide), if_neg (by decide), if_neg (by decide), if_neg (by decide), if_pos rfl]
    exact (y_set (i := 1) (hi := 9) (by decide) (by decide) x7 ha he hq x8).pre x3 x4 x5
  rw [if_neg c5]
  by_cases c6 : w = wIll
  · have es : swM w = 5 := by rw [c6]; decide
    rw [es, if_pos c6, if_neg (by decide), if_neg (by decide), if_neg (by decide), if_neg (by decide), if_neg (by decide), if_pos rfl]
    exact (y_set (i := 2) (hi := 100) (by decide) (by decide) x7 ha he hq x8).pre x3 x4 x5
  have es : swM w = -1 := by unfold swM; rw [if_neg c2, if_neg c6, if_neg c4, if_neg c3, if_neg c1, if_neg c5]
  rw [es, if_neg c6, if_neg (by decide), if_neg (by decide), if_neg (by decide), if_neg (by decide), if_neg (by decide), if_neg (by decide), r_cls, ckc_s, show (1 : Int32) = nI 1 from rfl, x_wrong, bnd_s]
  obtain ⟨p1, p2, p3⟩ := cFlt_po (n := n) (b := b) (cRd.rf c) 1 j
  exact ⟨_, h1, p1.rt, x5, by omega, by omega, x7.1, rfl, ⟨p2, p3⟩, by omega, by omega⟩
end TC
