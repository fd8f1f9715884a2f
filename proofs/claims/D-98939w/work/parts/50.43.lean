/-! PART 43: plain: the component's ask -/
set_option maxRecDepth 100000
theorem rQst_ok {n : Nat} {b : Nat → Nat} {kd e : Nat} {cs : List Int32} (h : rQst n b = .inr ((kd, cs), e)) : cDep (alOf 2) cs 0 = some 1 ∧ no52 cs := by
  obtain ⟨v, e1, q1, q2⟩ := sbd_inr h
  cases qk : fndW askW v.1 0 with
  | none => rw [qk] at q2; cases q2
  | some k =>
    rw [qk] at q2
    obtain ⟨c, e2, q3, q4⟩ := sbd_inr q2
    by_cases cn : n ≤ sSk n b e2
    · rw [if_pos cn] at q4
      cases q4
      by_cases c3 : 3 ≤ kd
      · rw [if_pos c3] at q3
        exact ⟨rSum_cd1 q3, rSum_no _ _ _ _ _ _ _ q3⟩
      · rw [if_neg c3] at q3
        exact ⟨rTest_cd q3, rTest_no _ _ _ _ _ _ _ q3⟩
    · rw [if_neg cn] at q4; cases q4
section TL
variable {B : Nat} {D : PD} {cap : Nat × Nat} {g : SG} {c : CZ} {h : PH}
theorem x_ask (hD : ∃ q, dS D 7 = va_rf q) (H : cG B g c h) (hw : hW B h) (hk : Kst D B h.1 h) (a : Int32) (r1 : h.1 + 60 * gT g + 105 ≤ cap.1) (r2 : h.2.1 + 800 * gT g + 40023 ≤ cap.2) :
    ∃ c' h', fX0_ask D cap B a (mk B c h) = some ((spAsk g a).1, mk B c' h') ∧ cG B (spAsk g a).2 c' h' ∧ hGr h h' ∧ hW B h' ∧ h'.1 ≤ h.1 + 60 * gT g + 105 ∧ h'.2.1 ≤ h.2.1 + 800 * gT g + 1023 := by
  have hT := H.1.2.2.2.1
  have hb := H.1.2.2.2.2.1
  obtain ⟨c1, t1, H1, t2⟩ := x_taken H
  unfold fX0_ask spAsk
  rw [x0_cls, ckc_s, t1, bnd_s, x0_cls, ckc_s, x_isPerson H1.2.1, bnd_s]
  have eK : gK (uT g 0 (gB g)) = gK g := rfl
  rw [eK]
  cases qp : sPn (kP (gK g)) a with
  | false =>
    rw [if_pos (show bI false = 0 by decide), if_neg (show ¬ false = true by decide)]
    exact ⟨c1, h, rfl, H1, hGr.rf h, hw, by omega, by omega⟩
  | true =>
    have h8 := H.2.1.1.2.1
    obtain ⟨q, hq, eq⟩ := sPn_nat qp h8
    have H2 := H1.flt 0 (-1)
    rw [if_neg (show ¬ bI true = 0 by decide), if_pos rfl, x0_pI c1 h 3 (by decide), bnv_s, x0_pI _ h 4 (by decide), bnv_s, x0_F5, vA_s, r_cls, ckc_s]
    have b6 : ∀ i, i < gT g → gB g i < 256 ∧ cI (xI (xI c1 0 3 0) 0 4 (-1)) 6 i = sb (gB g i) := fun i hi => ⟨hb i hi, by rw [cI_xI_ne _ (by omega), cI_xI_ne _ (by omega)]; exact t2 i hi⟩
    obtain ⟨c3, h3, x1, x2, x3, x4, x5, x6⟩ := y_quest (D := D) (cap := cap) (c := xI (xI c1 0 3 0) 0 4 (-1)) (n := gT g) (b := gB g) hw hk hT b6 r1 r2
    have H3h := H2.r7 x1
    have H3 := H3h.gr hw x2
    cases qs : rQst (gT g) (gB g) with
    | inl gg =>
      rw [qs] at x6
      obtain ⟨k1, k2, k3⟩ := x6
      rw [k1, bnc_r, f_cls, ckc_s, f_F6, vI_s, k2, x0_pI c3 h3 3 (by decide), bnv_s, f_F7, vI_s, cI_xI_ne _ (by omega), k3, x0_pI _ h3 4 (by decide), bnv_s]
      exact ⟨_, h3, rfl, H3.flt (nI gg.1) (nI gg.2), x2, x3, x4, x5⟩
    | inr pp =>
      obtain ⟨⟨kd, cs⟩, e⟩ := pp
      rw [qs] at x6
      obtain ⟨p, t, k1, k2⟩ := x6
      obtain ⟨o1, o2⟩ := rQst_ok qs
      rw [k1, bnc_l, x0_pI c3 h3 18 (by decide), bnv_s, jn_s]
      obtain ⟨c', h', L', F', z1, z2, z3, z4, z5, z6, z7, z8⟩ := ask_L (D := D) (g := uFt (uT g 0 (gB g)) (0, -1)) (t := t) hw.1 hD hq o1 o2 h hw (Nat.le_refl _) (fun h10 => ckc (pCls h10 p) 20 <| bnd (fX20_answer p h10) fun r3 h11 => some (r3, h11)) (fun _ => none) FU 0 (xI c3 0 18 0) h3 (-1) false (Nat.zero_le _) (FU_gt (by have := H.2.1.1.1; show kF (gK g) - 0 < _; omega)) (H3h.ak (cAk.i _ _)) x2 x3 (cI_xI_eq _ _ _ _) k2 (qR_0 k2.2.1)
      rw [eq, z1]
      obtain ⟨a1, a2⟩ := x_answer (c := c') hw.1 z7
      refine ⟨c', h', ?_, z2.gr hw z3, z3, z4, by omega, by omega⟩
      show (ckc (pCls (mk B c' h') p) 20 <| bnd (fX20_answer p (mk B c' h')) fun r3 h11 => some (r3, h11)) = _
      rw [a2, ckc_s, a1, bnd_s, qR_e z8, nI_c (show q < 2 ^ 31 by omega)]
      rfl
end TL
