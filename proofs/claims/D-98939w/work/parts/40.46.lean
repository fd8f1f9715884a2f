/-! PART 46: plain: the component: teaches -/
set_option maxRecDepth 100000
section TE
variable {D : PD} {B : Nat} {k : SK} {nm : Nat → Nat → List Nat} {c : CZ} {h0 : PH} {w : SW} {s : Nat}
theorem cSt.xL36 {c : CZ} (ht : cSt k w s c) (i : Nat) (v : Int32) : cSt k w s (xI c (s + 36) i v) := by
  refine ⟨?_, ?_, ?_, fun p hp => ⟨?_, ?_, ?_, ?_⟩⟩
  · rw [cI_x, if_neg (by omega)]; exact ht.1
  · rw [cI_x, if_neg (by omega)]; exact ht.2.1
  · rw [cI_x, if_neg (by omega)]; exact ht.2.2.1
  · rw [cI_x, if_neg (by omega)]; exact (ht.2.2.2 p hp).1
  · rw [cI_x, if_neg (by omega)]; exact (ht.2.2.2 p hp).2.1
  · rw [cI_x, if_neg (by omega)]; exact (ht.2.2.2 p hp).2.2.1
  · rw [cI_x, if_neg (by omega)]; exact (ht.2.2.2 p hp).2.2.2
theorem cSt.x10 {c : CZ} (ht : cSt k w s c) (v : Int32) : cSt k w s (xI c s 10 v) := by
  refine ⟨?_, ?_, ?_, fun p hp => ⟨?_, ?_, ?_, ?_⟩⟩
  · rw [cI_x, if_neg (by omega)]; exact ht.1
  · rw [cI_x, if_neg (by omega)]; exact ht.2.1
  · rw [cI_x, if_neg (by omega)]; exact ht.2.2.1
  · rw [cI_x, if_neg (by omega)]; exact (ht.2.2.2 p hp).1
  · rw [cI_x, if_neg (by omega)]; exact (ht.2.2.2 p hp).2.1
  · rw [cI_x, if_neg (by omega)]; exact (ht.2.2.2 p hp).2.2.1
  · rw [cI_x, if_neg (by omega)]; exact (ht.2.2.2 p hp).2.2.2
/-- all lessons are chosen -/
theorem x_teaches1 {Q : PH → Prop} {K : PH → Option PH} (hD : ∃ q, dS D 7 = va_rf q) (hx : cSc B k nm c h0) (hs : isS s) (hw : wOk k w) (ht : cSt k w s c) (h10 : cI c s 10 = 0) {ill : Nat} (hi : ill < 256) (hK : ∀ c', cTe s c c' → cSt k w s c' → cI c' s 10 = nI (sGar k w ill (kP k)) → (∀ p, p < kP k → cI c' (s + 36) p = nI (sLes k w ill p) - 1) → Ok (K (mk B c' h0)) Q) : Ok (fx (fX5_teaches_L7 D (B + s) (nI ill) K) (fun _ _ => none) FU 0 (mk B c h0)) Q := by
  have h8 := hx.1.2.1
  have hF := hx.1.1
  have or0 : ∀ x : Int32, x ||| 0 = x := fun x => Int32.or_zero
  refine fx_okN (F := fX5_teaches_L7 D (B + s) (nI ill) K) (z := fun _ _ => none) (fun g j (b : CZ) => g (nI j) (mk B b h0)) (kP k) (fun j b => cTe s c b ∧ cSt k w s b ∧ cI b s 10 = nI (sGar k w ill j) ∧ ∀ p, p < j → cI b (s + 36) p = nI (sLes k w ill p) - 1) Q ?_ ?_ FU 0 c (Nat.zero_le _) ⟨cTe.rf s c, ht, h10, fun p hp => absurd hp (Nat.not_lt_zero _)⟩ (FU_gt (by omega))
  · rintro g j b hj ⟨hb, tb, g10, g36⟩ go
    have xb := hb.sc hx
    have lj := sLes_le k w ill j
    have lt := sGar_lt k w ill j (by omega)
    have r8 := hw.r8 hx.1 hj
    have w8 := hw.w8 hx.1 hj
    rw [sGar_S] at go
    -- behind the choice
    have fin : ∀ b', cMo b b' → Ok (bnv (pSt (mk B b' h0) (B + s + 36) 0 (nI j) (nI (sLes k w ill j) - 1)) fun h14 =>
        vA (pF h14 (B + s) 5 9) fun p9 =>
        ob (pLd h14 p9 0 (nI j)) fun v7 =>
        if v7 = (-1) then g (nI j + 1) h14
        else
          vA (pF h14 (B + s) 5 6) fun p10 =>
          ob (pLd h14 p10 0 (nI j)) fun v8 =>
          vA (pF h14 (B + s) 5 9) fun p11 =>
          ob (pLd h14 p11 0 (nI j)) fun v9 =>
          bnd (fX0_has v8 v9 h14) fun r5 h16 =>
          if (bI r5) = 0 then
            vA (pF h16 (B + s) 5 6) fun p12 =>
            vA (pF h16 (B + s) 5 4) fun p13 =>
            ob (pLd h16 p13 0 (nI j)) fun v10 =>
            ob (pLd h16 p12 0 v10) fun v11 =>
            vA (pF h16 (B + s) 5 9) fun p14 =>
            ob (pLd h16 p14 0 (nI j)) fun v12 =>
            bnd (fX0_has v11 v12 h16) fun r6 h17 =>
            if (bI r6) = 0 then
              vA (pF h17 (B + s) 5 11) fun p15 =>
              vA (pF h17 p15 0 0) fun p16 =>
              vQ (pF h17 p16 1 7) fun q1 =>
              qC q1 (vI (pF h17 (B + s) 5 10) fun v13 => if (bI false) = 0 then bnv (pPut h17 (B + s) 5 10 (.int (v13 ||| 0))) fun h20 => g (nI j + 1) h20 else bnv (pPut h17 (B + s) 5 10 (.int (v13 ||| ((1 : Int32) <<< (nI j &&& 31))))) fun h20 => g (nI j + 1) h20) fun n1 =>
                vA (pF h17 (B + s) 5 11) fun p17 =>
                vA (pF h17 p17 0 0) fun p18 =>
                vQ (pF h17 p18 1 7) fun q2 =>
                vA (pF h17 (B + s) 5 9) fun p19 =>
                ob (pLd h17 p19 0 (nI j)) fun v14 =>
                qS q2 fun n2 =>
                ckc (pCls h17 (B + s)) 5 <|
                bnd (fX5_holds D (B + s) n2 (nI j) v14 h17) fun r7 h23 =>
                if (bI r7) = 0 then vI (pF h23 (B + s) 5 10) fun v13 => if (bI false) = 0 then bnv (pPut h23 (B + s) 5 10 (.int (v13 ||| 0))) fun h20 => g (nI j + 1) h20 else bnv (pPut h23 (B + s) 5 10 (.int (v13 ||| ((1 : Int32) <<< (nI j &&& 31))))) fun h20 => g (nI j + 1) h20
                else vI (pF h23 (B + s) 5 10) fun v13 => if (bI true) = 0 then bnv (pPut h23 (B + s) 5 10 (.int (v13 ||| 0))) fun h20 => g (nI j + 1) h20 else bnv (pPut h23 (B + s) 5 10 (.int (v13 ||| ((1 : Int32) <<< (nI j &&& 31))))) fun h20 => g (nI j + 1) h20
            else vI (pF h17 (B + s) 5 10) fun v13 => if (bI true) = 0 then bnv (pPut h17 (B + s) 5 10 (.int (v13 ||| 0))) fun h20 => g (nI j + 1) h20 else bnv (pPut h17 (B + s) 5 10 (.int (v13 ||| ((1 : Int32) <<< (nI j &&& 31))))) fun h20 => g (nI j + 1) h20
          else g (nI j + 1) h16) Q := by
      intro b' hbb
      have in8 : inb (nI j) 8 = true := inb_nI (by omega) (by decide)
      have nc : (nI j).toNatClampNeg = j := nI_c (by omega)
      rw [Nat.add_assoc B s 36, (st_k36 hs).st b' h0 in8, bnv_s, nc]
      generalize hz : xI b' (s + 36) j (nI (sLes k w ill j) - 1) = e
      have te : cTe s c e := (hb.tr hbb.te).tr (by rw [← hz]; exact cTe.x b' (Or.inr (Or.inr (Or.inl rfl))) _)
      have se : cSt k w s e := by rw [← hz]; exact (hbb.st tb).xL36 j _
      have e10 : cI e s 10 = nI (sGar k w ill j) := by rw [← hz, cI_x, if_neg (by omega), hbb.i, g10]
      have e36 : ∀ p, p < j + 1 → cI e (s + 36) p = nI (sLes k w ill p) - 1 := fun p hp => by
        rw [← hz, cI_x]
        by_cases q : p = j
        · rw [if_pos ⟨rfl, q⟩, q]
        · rw [if_neg (fun x => q x.2), hbb.i]
          exact g36 p (by omega)
      have xe := te.sc hx
      have ld : ∀ x : CZ, cI x (s + 36) j = nI (sLes k w ill j) - 1 → pLd (mk B x h0) (B + s + 36) 0 (nI j) = some (nI (sLes k w ill j) - 1) := fun x hxx => by
        rw [Nat.add_assoc, (st_k36 hs).ld x h0 in8, nc, hxx]
      have l36 := ld e (e36 j (by omega))
      rw [st_F9 hs, vA_s, l36, ob_s]
      unfold sGarS at go
      by_cases c0 : sLes k w ill j = 0
      · rw [if_neg (fun q => q.1 c0)] at go
        rw [if_pos (by rw [c0]; decide), nI_1]
        exact go e ⟨te, se, e10, e36⟩
      · have hmj := sLes_m c0
        have hmk := (hw.2.2 j hj).1
        have hcan := sCan_r (sLes_can c0)
        have lrn := sLrn_iff hw hj hmj (show sLes k w ill j - 1 < 8 by omega) hcan
        have hmm : wM w j - 1 < kP k := by omega
        have wm8 := hw.w8 hx.1 hmm
        have fl : sLes k w ill j - 1 < 8 := by omega
        have no : ∀ x, cMo e x → sLrn k w j (sLes k w ill j - 1) ≠ 2 → Ok (g (nI j + 1) (mk B x h0)) Q := fun x hxx hn => by
          rw [if_neg (fun q => hn q.2)] at go
          rw [nI_1]
          exact go x ⟨te.tr hxx.te, hxx.st se, by rw [hxx.i, e10], fun p hp => by rw [hxx.i]; exact e36 p hp⟩
        have put : ∀ x, cMo e x → ∀ b2 : Bool, (b2 = true ↔ sLrn k w j (sLes k w ill j - 1) = 2) → Ok (vI (pF (mk B x h0) (B + s) 5 10) fun v13 => if (bI b2) = 0 then bnv (pPut (mk B x h0) (B + s) 5 10 (.int (v13 ||| 0))) fun h20 => g (nI j + 1) h20 else bnv (pPut (mk B x h0) (B + s) 5 10 (.int (v13 ||| ((1 : Int32) <<< (nI j &&& 31))))) fun h20 => g (nI j + 1) h20) Q := fun x hxx b2 hb2 => by
          have x10 : cI x s 10 = nI (sGar k w ill j) := by rw [hxx.i, e10]
          rw [st_F10 hs, vI_s, x10]
          have step : ∀ v : Nat, v = (if sLes k w ill j ≠ 0 ∧ sLrn k w j (sLes k w ill j - 1) = 2 then sGar k w ill j ||| 2 ^ j else sGar k w ill j) → Ok (bnv (pPut (mk B x h0) (B + s) 5 10 (.int (nI v))) fun h20 => g (nI j + 1) h20) Q := fun v hv => by
            rw [st_p10 hs, bnv_s, nI_1]
            refine go _ ⟨(te.tr hxx.te).tr (cTe.x x (Or.inr (Or.inr (Or.inr ⟨rfl, rfl⟩))) _), (hxx.st se).x10 _, by rw [cI_x, if_pos ⟨rfl, rfl⟩, hv], fun p hp => ?_⟩
            rw [cI_x, if_neg (by omega), hxx.i]
            exact e36 p hp
          cases b2 with
          | false =>
            rw [if_pos (by decide), or0]
            exact step _ (by rw [if_neg (fun q => by have := hb2.mpr q.2; cases this)])
          | true =>
            rw [if_neg (by decide), s_or _ lt j (by omega)]
            exact step _ (by rw [if_pos ⟨c0, hb2.mp rfl⟩])
        rw [if_neg (m1_ne c0 (by omega)), st_F6 hs, vA_s, st_w hs se hj h8, ob_s, vA_s, l36, ob_s, nI_m1 (by omega), has_v w8 fl, bnd_s]
        rw [nI_m1 (show 0 < sLes k w ill j by omega)] at l36 ld
        cases v1 : (wW w j).testBit (sLes k w ill j - 1) with
        | true =>
          rw [if_neg (by decide)]
          refine no e (cMo.rf e) (fun q => ?_)
          rw [(lrn.mp q).1] at v1
          cases v1
        | false =>
          rw [if_pos (by decide), st_F6 hs, vA_s, st_F4 hs, vA_s, st_m hs se hj h8, ob_s, nI_m1 (show 0 < wM w j by omega), st_w hs se hmm h8, ob_s, st_F9 hs, vA_s, l36, ob_s, has_v wm8 fl, bnd_s]
          cases v2 : (wW w (wM w j - 1)).testBit (sLes k w ill j - 1) with
          | true =>
            rw [if_neg (by decide)]
            exact put e (cMo.rf e) true ⟨fun _ => lrn.mpr ⟨v1, Or.inl v2⟩, fun _ => rfl⟩
          | false =>
            obtain ⟨sa, q, f0, f1, hq⟩ := sc_test xe (i := 1) (by decide)
            rw [if_pos (by decide), st_F11 hs, vA_s, f0, vA_s, f1, vQ_s]
            rcases hq with ⟨rfl, q2⟩ | ⟨code, t, rfl, q2, q3⟩
            · rw [qC_n]
              refine put e (cMo.rf e) false ⟨fun q => (by cases q), fun q => ?_⟩
              rcases (lrn.mp q).2 with z | z
              · rw [v2] at z; cases z
              · exact absurd q2 z.1
            · obtain ⟨e', e1, e2⟩ := x_holds_f hD xe hs hw se (i := 1) (by decide) hj (show sLes k w ill j - 1 < kF k by omega) hmj q2 q3
              rw [qC_s, vA_s, f0, vA_s, f1, vQ_s, st_F9 hs, vA_s, l36, ob_s, qS_s, st_cls hs, ckc_s, e1, bnd_s]
              cases hh : sHo k w 1 j (sLes k w ill j - 1) with
              | false =>
                rw [if_pos (by decide)]
                refine put e' e2 false ⟨fun q => (by cases q), fun q => ?_⟩
                rcases (lrn.mp q).2 with z | z
                · rw [v2] at z; cases z
                · rw [hh] at z; cases z.2
              | true =>
                rw [if_neg (by decide)]
                exact put e' e2 true ⟨fun _ => lrn.mpr ⟨v1, Or.inr ⟨by rw [q2]; simp, hh⟩⟩, fun _ => rfl⟩
    show Ok (fX5_teaches_L7 D (B + s) (nI ill) K g (nI j) (mk B b h0)) Q
    unfold fX5_teaches_L7
    rw [st_F11 hs, vA_s, x0_cls, ckc_s, x_people xb, bnd_s, if_neg (nI_ge hj (by omega)), st_F9 hs, vA_s, has_v hi (by omega), bnd_s]
    simp only [jn_s]
    cases v : ill.testBit j with
    | true =>
      rw [if_neg (by decide)]
      have := fin b (cMo.rf b)
      have e0 : sLes k w ill j = 0 := by unfold sLes; rw [if_pos v]
      rw [e0, show nI 0 - 1 = -1 by decide] at this
      exact this
    | false =>
      obtain ⟨b', e1, e2⟩ := x_lesson hD xb hs hw tb hj
      rw [if_pos (by decide), st_cls hs, ckc_s, e1, bnd_s]
      have := fin b' e2
      have e0 : sLes k w ill j = sNext k w j := by unfold sLes; rw [if_neg (by rw [v]; decide)]
      rw [e0] at this
      exact this
  · rintro g b ⟨hb, tb, g10, g36⟩
    have xb := hb.sc hx
    show Ok (fX5_teaches_L7 D (B + s) (nI ill) K g (nI (kP k)) (mk B b h0)) Q
    unfold fX5_teaches_L7
    rw [st_F11 hs, vA_s, x0_cls, ckc_s, x_people xb, bnd_s, if_pos (nI_le (Nat.le_refl _) (by omega))]
    exact hK b hb tb g10 g36
theorem x_teaches (hD : ∃ q, dS D 7 = va_rf q) (hx : cSc B k nm c h0) (hs : isS s) (hw : wOk k w) (ht : cSt k w s c) {ill : Nat} (hi : ill < 256) : ∃ c', fX5_teaches D (B + s) (nI ill) (mk B c h0) = some (mk B c' h0) ∧ cTe s c c' ∧ cSt k (sTau k w ill) s c' := by
  have h8 := hx.1.2.1
  have hF := hx.1.1
  have fin : Ok (fX5_teaches D (B + s) (nI ill) (mk B c h0)) (fun r => ∃ c', r = mk B c' h0 ∧ cTe s c c' ∧ cSt k (sTau k w ill) s c') := by
    unfold fX5_teaches
    rw [st_p10 hs, bnv_s, jn_s]
    have t0 : cTe s c (xI c s 10 0) := cTe.x c (Or.inr (Or.inr (Or.inr ⟨rfl, rfl⟩))) _
    refine x_teaches1 hD (t0.sc hx) hs hw (ht.x10 0) (by rw [cI_x, if_pos ⟨rfl, rfl⟩]) hi (fun c1 t1 s1 g10 g36 => ?_)
    have t1 := t0.tr t1
    refine fx_okN (F := fX5_teaches_L166 (B + s)) (z := fun _ _ => none) (fun g j (b : CZ) => g (nI j) (mk B b h0)) (kP k) (fun j b => cTe s c b ∧ cSt k (itN (sTauS k w ill) j 0 w) s b ∧ cI b s 10 = nI (sGar k w ill (kP k)) ∧ ∀ p, p < kP k → cI b (s + 36) p = nI (sLes k w ill p) - 1) _ ?_ ?_ FU 0 c1 (Nat.zero_le _) ⟨t1, s1, g10, g36⟩ (FU_gt (by omega))
    · rintro g j b hj ⟨hb, tb, h10, h36⟩ go
      have xb := hb.sc hx
      have lj := sLes_le k w ill j
      have glt := sGar_lt k w ill (kP k) h8
      have wk := sTau_ok hx.1 hw ill j (by omega)
      have es : itN (sTauS k w ill) (j + 1) 0 w = sTauS k w ill j (itN (sTauS k w ill) j 0 w) := itN_S _ _ _
      -- nobody but those before has changed
      have same : wR (itN (sTauS k w ill) j 0 w) j = wR w j ∧ wW (itN (sTauS k w ill) j 0 w) j = wW w j := by
        have := itN_inv (Inv := fun i v => ∀ q, i ≤ q → wR v q = wR w q ∧ wW v q = wW w q) (m := j) (st := sTauS k w ill) (fun i v hi hv => by
          intro q hq
          unfold sTauS
          split
          · exact hv q (by omega)
          · rw [wR_make, wW_make, if_neg (by omega), if_neg (by omega)]
            exact hv q (by omega)) j 0 w (by omega) (fun _ _ => ⟨rfl, rfl⟩)
        rw [Nat.zero_add] at this
        exact this j (Nat.le_refl _)
      rw [es] at go
      generalize itN (sTauS k w ill) j 0 w = v at tb go wk same
      have r8 := wk.r8 hx.1 hj
      have w8 := wk.w8 hx.1 hj
      have in8 : inb (nI j) 8 = true := inb_nI (by omega) (by decide)
      have nc : (nI j).toNatClampNeg = j := nI_c (by omega)
      have l36 : pLd (mk B b h0) (B + s + 36) 0 (nI j) = some (nI (sLes k w ill j) - 1) := by
        rw [Nat.add_assoc, (st_k36 hs).ld b h0 in8, nc, h36 j hj]
      show Ok (fX5_teaches_L166 (B + s) g (nI j) (mk B b h0)) _
      unfold fX5_teaches_L166
      rw [st_F11 hs, vA_s, x0_cls, ckc_s, x_people xb, bnd_s, if_neg (nI_ge hj (by omega)), st_F9 hs, vA_s, l36, ob_s]
      simp only [jn_s]
      unfold sTauS at go
      by_cases c0 : sLes k w ill j = 0
      · rw [if_pos c0] at go
        rw [if_pos (by rw [c0]; decide), nI_1]
        exact go b ⟨hb, tb, h10, h36⟩
      · rw [if_neg c0] at go
        have fl : sLes k w ill j - 1 < 8 := by omega
        have hcan := sCan_r (sLes_can c0)
        have gb := sGar_bit k w ill (kP k) h8 j hj
        have c1' := s_clrlt _ w8 _ fl
        rw [if_neg (m1_ne c0 (by omega)), vA_s, l36, ob_s, st_F6 hs, vA_s, st_w hs tb hj h8, ob_s, nI_m1 (by omega), s_clr _ w8 _ fl, Nat.add_assoc B s 3, (st_k3 hs).st b h0 in8, bnv_s, nc, st_F10 hs, vI_s, cI_x, if_neg (by omega), h10, has_v glt (by omega), bnd_s]
        generalize hf : sLes k w ill j - 1 = f at *
        have l12 := sLrn_12 k w j f
        have up : ∀ c2 : CZ, cTe s b c2 → (∀ o i, ¬ (o = s + 2 ∧ i = j) → ¬ (o = s + 3 ∧ i = j) → cI c2 o i = cI b o i) → cI c2 (s + 2) j = nI (if sLrn k w j f = 1 then wR v j &&& (255 - 2 ^ f) ||| 2 ^ f else wR v j &&& (255 - 2 ^ f)) → cI c2 (s + 3) j = nI (if sLrn k w j f = 2 then wW v j &&& (255 - 2 ^ f) ||| 2 ^ f else wW v j &&& (255 - 2 ^ f)) → Ok (g (nI j + 1) (mk B c2 h0)) (fun r => ∃ c', r = mk B c' h0 ∧ cTe s c c' ∧ cSt k (sTau k w ill) s c') := fun c2 q1 q2 q3 q4 => by
          rw [nI_1]
          refine go c2 ⟨hb.tr q1, ⟨?_, ?_, ?_, fun p hp => ⟨?_, ?_, ?_, ?_⟩⟩, by rw [q2 _ _ (by omega) (by omega)]; exact h10, fun p hp => by rw [q2 _ _ (by omega) (by omega)]; exact h36 p hp⟩
          · rw [q2 _ _ (by omega) (by omega)]; exact tb.1
          · rw [q2 _ _ (by omega) (by omega)]; exact tb.2.1
          · rw [q2 _ _ (by omega) (by omega)]; exact tb.2.2.1
          · rw [q2 _ _ (by omega) (by omega)]; exact (tb.2.2.2 p hp).1
          · rw [wR_make]
            by_cases e : p = j
            · rw [if_pos e, e]; exact q3
            · rw [if_neg e, q2 _ _ (by omega) (by omega)]; exact (tb.2.2.2 p hp).2.1
          · rw [wW_make]
            by_cases e : p = j
            · rw [if_pos e, e]; exact q4
            · rw [if_neg e, q2 _ _ (by omega) (by omega)]; exact (tb.2.2.2 p hp).2.2.1
          · rw [q2 _ _ (by omega) (by omega)]; exact (tb.2.2.2 p hp).2.2.2
        have tb2 := (tb.2.2.2 j hj).2.1
        have hr : (wR v j).testBit f = false := by rw [same.1]; exact hcan
        rcases l12 with e | e
        · have gb : (sGar k w ill (kP k)).testBit j = false := by rw [gb]; exact decide_eq_false (fun q => by rw [e] at q; cases q.2)
          rw [gb, if_pos (by decide), st_F5 hs, vA_s]
          have l2 : pLd (mk B (xI b (s + 3) j (nI (wW v j &&& (255 - 2 ^ f)))) h0) (B + s + 2) 0 (nI j) = some (nI (wR v j)) := by
            rw [Nat.add_assoc, (st_k2 hs).ld _ h0 in8, nc, cI_x, if_neg (by omega), tb2]
          rw [l2, ob_s, s_or _ r8 f fl, Nat.add_assoc B s 2, (st_k2 hs).st _ h0 in8, bnv_s, nc]
          rw [e] at up
          refine up _ ((cTe.x b (Or.inr (Or.inl rfl)) _).tr (cTe.x _ (Or.inl rfl) _)) (fun o i n1 n2 => by rw [cI_x, if_neg n1, cI_x, if_neg n2]) ?_ ?_
          · rw [cI_x, if_pos ⟨rfl, rfl⟩, if_pos rfl, s_clr_or _ r8 f fl]
          · rw [cI_x, if_neg (by omega), cI_x, if_pos ⟨rfl, rfl⟩, if_neg (by decide)]
        · have gb : (sGar k w ill (kP k)).testBit j = true := by rw [gb]; exact decide_eq_true ⟨c0, e⟩
          rw [gb, if_neg (by decide), st_F6 hs, vA_s]
          have l3 : pLd (mk B (xI b (s + 3) j (nI (wW v j &&& (255 - 2 ^ f)))) h0) (B + s + 3) 0 (nI j) = some (nI (wW v j &&& (255 - 2 ^ f))) := by
            rw [Nat.add_assoc, (st_k3 hs).ld _ h0 in8, nc, cI_x, if_pos ⟨rfl, rfl⟩]
          rw [l3, ob_s, s_or _ c1' f fl, Nat.add_assoc B s 3, (st_k3 hs).st _ h0 in8, bnv_s, nc]
          rw [e] at up
          refine up _ ((cTe.x b (Or.inr (Or.inl rfl)) _).tr (cTe.x _ (Or.inr (Or.inl rfl)) _)) (fun o i n1 n2 => by rw [cI_x, if_neg n2, cI_x, if_neg n2]) ?_ ?_
          · rw [cI_x, if_neg (by omega), cI_x, if_neg (by omega), if_neg (by decide), s_clr_id _ r8 f fl hr]
            exact tb2
          · rw [cI_x, if_pos ⟨rfl, rfl⟩, if_pos rfl]
    · rintro g b ⟨hb, tb, h10, h36⟩
      have xb := hb.sc hx
      show Ok (fX5_teaches_L166 (B + s) g (nI (kP k)) (mk B b h0)) _
      unfold fX5_teaches_L166
      rw [st_F11 hs, vA_s, x0_cls, ckc_s, x_people xb, bnd_s, if_pos (nI_le (Nat.le_refl _) (by omega))]
      exact Ok.of ⟨b, rfl, hb, tb⟩
  obtain ⟨r, e, c', rfl, q1, q2⟩ := fin
  exact ⟨c', e, q1, q2⟩
end TE
