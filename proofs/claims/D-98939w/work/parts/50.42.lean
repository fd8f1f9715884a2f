/-! PART 42: plain: the component's question over all facts -/
set_option maxRecDepth 100000
/-- only what is asked, and the fact asked of, are changed -/
def cAk (c c' : CZ) : Prop := (∀ o i, ¬ (o = 0 ∧ i = 18) → cI c' o i = cI c o i) ∧ c'.2.2 = c.2.2 ∧ ∀ o, o ≠ 12 → c'.2.1 o = c.2.1 o
theorem cAk.rf (c : CZ) : cAk c c := ⟨fun _ _ _ => rfl, rfl, fun _ _ => rfl⟩
theorem cAk.tr {c1 c2 c3 : CZ} (g : cAk c1 c2) (k : cAk c2 c3) : cAk c1 c3 := ⟨fun o i h => (k.1 o i h).trans (g.1 o i h), k.2.1.trans g.2.1, fun o h => (k.2.2 o h).trans (g.2.2 o h)⟩
theorem cAk.x (c : CZ) (i : Nat) (v : Int64) : cAk c (xL c 12 i v) := ⟨fun _ _ _ => rfl, rfl, fun o ho => va_up_ne _ _ ho⟩
theorem cAk.i (c : CZ) (v : Int32) : cAk c (xI c 0 18 v) := ⟨fun o i h => by rw [cI_xI_ne _ h], rfl, fun _ _ => rfl⟩
section TK
variable {B : Nat} {D : PD} {g : SG} {c c' : CZ} {h : PH}
theorem cG.ak (H : cG B g c h) (k : cAk c c') : cG B g c' h := by
  have e : ∀ o i, ¬ (o = 0 ∧ i = 18) → cI c' o i = cI c o i := k.1
  obtain ⟨k1, k2, k3, k4, k5⟩ := H.core (c' := c') (fun o i' q => e o i' (by omega)) (e 0 16 (by decide)) k.2.1
  obtain ⟨h0', h1, h2, h3, h4, h5, h6, h7, h8, h9, h10, h11⟩ := H
  exact ⟨h0', k1, k2, k3, k4, ⟨h5.1, by rw [e _ _ (by decide)]; exact h5.2.1, fun i hi => by rw [e _ _ (by omega), e _ _ (by omega)]; exact h5.2.2 i hi⟩, ⟨by rw [e _ _ (by decide)]; exact h6.1, fun i hi => by rw [e _ _ (by omega)]; exact h6.2 i hi⟩, fun j hj => by rw [e _ _ (by omega)]; exact h7 j hj, ⟨by rw [e _ _ (by decide)]; exact h8.1, by rw [e _ _ (by decide)]; exact h8.2⟩, by show c'.2.1 0 17 = _; rw [k.2.2 0 (by decide)]; exact h9, ⟨by rw [e _ _ (by decide)]; exact h10.1, fun i hi => by rw [e _ _ (by omega)]; exact h10.2 i hi⟩, k5⟩
theorem as_st (j : Nat) (hj : j < 12) (v : Int64) : pStJ (mk B c h) (B + 12) 1 (nI j) v = some (mk B (xL c 12 j v) h) := by
  rw [k_ask.st c h (inb_nI hj (by decide)), nI_c (by omega)]
/-- what has been asked so far -/
def asP (k : SK) (w : SW) (p f : Nat) (c c' : CZ) (S : Nat → Bool) : Prop := cAk c c' ∧ cI c' 0 18 = nI f ∧ ∀ j, j < 12 → S j = true → cL c' 12 j = sPart k w true p f j
theorem asP.x {k : SK} {w : SW} {p f : Nat} {c c' : CZ} {S : Nat → Bool} (g : asP k w p f c c' S) {j : Nat} {v : Int64} (hv : v = sPart k w true p f j) : asP k w p f c (xL c' 12 j v) (fun i => S i || decide (i = j)) := by
  refine ⟨g.1.tr (cAk.x _ _ _), g.2.1, fun i hi hS => ?_⟩
  rw [cL_x]
  by_cases e : i = j
  · rw [if_pos ⟨rfl, e⟩, hv, e]
  · rw [if_neg (fun q => e q.2)]
    refine g.2.2 i hi ?_
    have hS : (S i || decide (i = j)) = true := hS
    rw [decide_eq_false e, Bool.or_false] at hS
    exact hS
theorem lk_of {k : SK} {w : SW} {f : Nat} (hk : kOk k) (hw : wOk k w) (hf : f < 8) (h18 : cI c 0 18 = nI f) (h16 : ∀ q, q < kP k → cI c 16 q = nI (wR w q)) (x : Int64) : lkV k c x = sOf k w f x := by
  have h8 := hk.2.1
  unfold lkV sOf
  have e0 : (0 : Int64).toInt = 0 := by decide
  by_cases c0 : x < 0
  · have q := Int64.lt_iff_toInt_lt.mp c0
    rw [if_pos c0, if_neg (fun z => by omega)]
  rw [if_neg c0]
  have q0 := mt Int64.lt_iff_toInt_lt.mpr c0
  by_cases c1 : (nI (kP k)).toInt64 ≤ x
  · have q := Int64.le_iff_toInt_le.mp c1
    rw [Int32.toInt_toInt64, nI_toInt (by omega)] at q
    rw [if_pos c1, if_neg (fun z => by omega)]
  rw [if_neg c1]
  have q1 := mt Int64.le_iff_toInt_le.mpr c1
  rw [Int32.toInt_toInt64, nI_toInt (by omega)] at q1
  have ex : x = lN x.toInt.toNat := by
    apply Int64.toInt_inj.mp
    rw [lN_toInt (by omega)]
    omega
  have hi : Int64.toInt32 x = nI x.toInt.toNat := by
    rw [ex, lN_i, lN_toInt (by omega)]
    simp
  have hlt : x.toInt.toNat < kP k := by omega
  rw [if_pos (show 0 ≤ x.toInt ∧ x.toInt < (kP k : Int) from ⟨by omega, by omega⟩), hi, nI_c (by omega), h18, h16 _ hlt]
  have r8 : wR w x.toInt.toNat < 256 := by
    have : 2 ^ kF k ≤ 2 ^ 8 := Nat.pow_le_pow_right (by decide) hk.1
    exact Nat.lt_of_lt_of_le (hw.2.2 _ hlt).2.1 this
  by_cases c2 : (wR w x.toInt.toNat).testBit f = true
  · rw [if_pos ((s_has _ r8 _ hf).mpr c2), if_pos c2]
  · rw [if_neg (fun z => c2 ((s_has _ r8 _ hf).mp z)), if_neg c2]
theorem ask_L {N p kd t q : Nat} {cs : List Int32} (hN : B + 841 ≤ N) (hD : ∃ q, dS D 7 = va_rf q) (hq : q < kP (gK g)) (hd : cDep (alOf 2) cs 0 = some 1) (hno : no52 cs) (h0 : PH) (hw0 : hW B h0) (hN0 : h0.1 ≤ N) (k308 : PH → Option (Int64 × PH)) (dm : PH → Option (Int64 × PH)) :
    ∀ (m f : Nat) (c : CZ) (h : PH) (L : Int64) (F : Bool), f ≤ kF (gK g) → kF (gK g) - f < m → cG B g c h0 → hGr h0 h → hW B h → cI c 0 18 = nI f → quP B N h p kd t cs L F → qR kd f (sAsk (gK g) (gW g) q kd cs f) L F →
      ∃ c' h' L' F', fx (fX0_ask_L68 D B (nI q) p k308) dm m (mk B c h) = k308 (mk B c' h') ∧ cG B g c' h0 ∧ hGr h0 h' ∧ hW B h' ∧ h'.1 = h.1 ∧ h'.2.1 = h.2.1 ∧ quP B N h' p kd t cs L' F' ∧ qR kd (kF (gK g)) (sAsk (gK g) (gW g) q kd cs (kF (gK g))) L' F'
  | 0, f, c, h, L, F, _, hm, _, _, _, _, _, _ => absurd hm (Nat.not_lt_zero _)
  | m + 1, f, c, h, L, F, hf, hm, H0, hg, hw, h18, qu, qr => by
    have IH := fun c1 h1 L1 F1 e1 e2 e3 e4 e5 e6 e7 e8 => ask_L (t := t) (p := p) (kd := kd) hN hD hq hd hno h0 hw0 hN0 k308 dm m (f + 1) c1 h1 L1 F1 e1 e2 e3 e4 e5 e6 e7 e8
    rw [fx_s]
    generalize fx (fX0_ask_L68 D B (nI q) p k308) dm m = T at IH ⊢
    have H := H0.gr hw0 hg
    have hk := H.2.1.1
    have h8 := hk.2.1
    have hF := hk.1
    have hwo := H.2.2.1.1
    unfold fX0_ask_L68
    rw [x0_F18, vI_s, h18, x0_cls, ckc_s, x_facts H.2.1, bnd_s]
    by_cases cf : f < kF (gK g)
    · have f8 : f < 8 := by omega
      have d0 : asP (gK g) (gW g) q f c c (fun _ => false) := ⟨cAk.rf c, h18, fun j _ hS => by cases hS⟩
      rw [if_neg (nI_ge cf (by omega)), x0_F7, vA_s, as_F, vA_s, x0_cls, ckc_s, x_calmOf H.2.1 hq, bnd_s, show pStJ (mk B c h) (B + 12) 1 0 (nI (kCa (gK g) q)).toInt64 = _ from as_st 0 (by decide) _, bnv_s]
      have d1 := d0.x (j := 0) (v := (nI (kCa (gK g) q)).toInt64) rfl
      generalize xL c 12 0 (nI (kCa (gK g) q)).toInt64 = c1 at d1
      have H1 := H.ak d1.1
      rw [x0_F7, vA_s, as_F, vA_s, x0_F18, vI_s, d1.2.1, x0_cls, ckc_s, show fX0_standing B (nI f) 1 (mk B c1 h) = _ from x_standing H1 (a := 1) f8 (by decide), bnd_s, ← sRiM_is hwo f _ (Nat.le_refl _), show ∀ v, pStJ (mk B c1 h) (B + 12) 1 1 v = _ from as_st 1 (by decide), bnv_s]
      have d2 := d1.x (j := 1) (v := (nI (sRiM (gW g) (kP (gK g)) f)).toInt64) rfl
      generalize xL c1 12 1 (nI (sRiM (gW g) (kP (gK g)) f)).toInt64 = c2 at d2
      have H2 := H.ak d2.1
      rw [x0_F7, vA_s, as_F, vA_s, x0_F18, vI_s, d2.2.1, x0_cls, ckc_s, show fX0_standing B (nI f) 2 (mk B c2 h) = _ from x_standing H2 (a := 2) f8 (by decide), bnd_s, ← sWrM_is hwo f8 _ (Nat.le_refl _), show ∀ v, pStJ (mk B c2 h) (B + 12) 1 2 v = _ from as_st 2 (by decide), bnv_s]
      have d3 := d2.x (j := 2) (v := (nI (sWrM (gW g) (kP (gK g)) f)).toInt64) rfl
      generalize xL c2 12 2 (nI (sWrM (gW g) (kP (gK g)) f)).toInt64 = c3 at d3
      have H3 := H.ak d3.1
      rw [x0_F7, vA_s, as_F, vA_s, x0_F9, vA_s, st_F0 is14, vI_s, H3.2.2.1.2.1.1, show ∀ v, pStJ (mk B c3 h) (B + 12) 1 3 v = _ from as_st 3 (by decide), bnv_s]
      have d4 := d3.x (j := 3) (v := (nI (wY (gW g))).toInt64) rfl
      generalize xL c3 12 3 (nI (wY (gW g))).toInt64 = c4 at d4
      have H4 := H.ak d4.1
      rw [x0_F7, vA_s, as_F, vA_s, x0_F18, vI_s, d4.2.1, x0_cls, ckc_s, x_worthOf H4.2.1 cf, bnd_s, show ∀ v, pStJ (mk B c4 h) (B + 12) 1 4 v = _ from as_st 4 (by decide), bnv_s]
      have d5 := d4.x (j := 4) (v := (nI (kWo (gK g) f)).toInt64) rfl
      generalize xL c4 12 4 (nI (kWo (gK g) f)).toInt64 = c5 at d5
      have H5 := H.ak d5.1
      rw [x0_F7, vA_s, as_F, vA_s, x0_F9, vA_s, st_F7 is14, vA_s, st_l is14 H5.2.2.1.2.1 hq h8, ob_s, show ∀ v, pStJ (mk B c5 h) (B + 12) 1 7 v = _ from as_st 7 (by decide), bnv_s]
      have d6 := d5.x (j := 7) (v := (nI (wL' (gW g) q)).toInt64) rfl
      generalize xL c5 12 7 (nI (wL' (gW g) q)).toInt64 = c6 at d6
      have H6 := H.ak d6.1
      rw [x0_F7, vA_s, as_F, vA_s, x0_F9, vA_s, st_cls is14, ckc_s, x_marks H6.2.1 is14 hwo H6.2.2.1.2.1 hq, bnd_s, show ∀ v, pStJ (mk B c6 h) (B + 12) 1 8 v = _ from as_st 8 (by decide), bnv_s]
      have d7 := d6.x (j := 8) (v := (sMk (gK g) (gW g) q).toInt64) rfl
      generalize xL c6 12 8 (sMk (gK g) (gW g) q).toInt64 = c7 at d7
      rw [x0_F7, vA_s, as_F, vA_s, x0_F18, vI_s, d7.2.1, show ∀ v, pStJ (mk B c7 h) (B + 12) 1 9 v = _ from as_st 9 (by decide), bnv_s]
      have d8 := d7.x (j := 9) (v := (nI f).toInt64) rfl
      generalize xL c7 12 9 (nI f).toInt64 = c8 at d8
      have H8 := H.ak d8.1
      rw [x0_F7, vA_s, as_F, vA_s, x0_F9, vA_s, x0_F18, vI_s, d8.2.1, st_cls is14, ckc_s, x_stands hk is14 hwo H8.2.2.1.2.1 hq f8, bnd_s]
      simp only [jn_s]
      have e10 : (if nI (sIs (gW g) q f) = (1 : Int32) then (1 : Int64) else 0) = sPart (gK g) (gW g) true q f 10 := by
        show _ = (nI (if (wR (gW g) q).testBit f = true then 1 else 0)).toInt64
        unfold sIs
        by_cases b1 : (wR (gW g) q).testBit f = true
        · rw [if_pos b1, if_pos b1]; rfl
        · rw [if_neg b1, if_neg b1]
          split
          · rw [if_neg (by decide)]; rfl
          · rw [if_neg (by decide)]; rfl
      have e11 : (if nI (sIs (gW g) q f) = (2 : Int32) then (1 : Int64) else 0) = sPart (gK g) (gW g) true q f 11 := by
        show _ = (nI (if (wW (gW g) q).testBit f = true then 1 else 0)).toInt64
        unfold sIs
        by_cases b1 : (wR (gW g) q).testBit f = true
        · have b2 : ¬ (wW (gW g) q).testBit f = true := fun b2 => (hwo.2.2 q hq).2.2.2.1 f f8 ⟨b1, b2⟩
          rw [if_pos b1, if_neg b2, if_neg (by decide)]; rfl
        · rw [if_neg b1]
          by_cases b2 : (wW (gW g) q).testBit f = true
          · rw [if_pos b2, if_pos b2]; rfl
          · rw [if_neg b2, if_neg b2, if_neg (by decide)]; rfl
      have i2 : ∀ (β : Type) (n : Int32) (X : Int64 → β) (r : Int32), (if r = n then X 1 else X 0) = X (if r = n then 1 else 0) := fun β n X r => by
        by_cases c : r = n
        · rw [if_pos c, if_pos c]
        · rw [if_neg c, if_neg c]
      rw [i2 _ 1 (fun x1 => bnv (pStJ (mk B c8 h) (B + 12) 1 10 x1) _), e10]
      rw [show ∀ v, pStJ (mk B c8 h) (B + 12) 1 10 v = _ from as_st 10 (by decide), bnv_s]
      have d9 := d8.x (j := 10) (v := sPart (gK g) (gW g) true q f 10) rfl
      generalize xL c8 12 10 (sPart (gK g) (gW g) true q f 10) = c9 at d9
      have H9 := H.ak d9.1
      rw [x0_F7, vA_s, as_F, vA_s, x0_F9, vA_s, x0_F18, vI_s, d9.2.1, st_cls is14, ckc_s, x_stands hk is14 hwo H9.2.2.1.2.1 hq f8, bnd_s, i2 _ 2 (fun x2 => bnv (pStJ (mk B c9 h) (B + 12) 1 11 x2) _), e11]
      rw [show ∀ v, pStJ (mk B c9 h) (B + 12) 1 11 v = _ from as_st 11 (by decide), bnv_s]
      have d10 := d9.x (j := 11) (v := sPart (gK g) (gW g) true q f 11) rfl
      generalize xL c9 12 11 (sPart (gK g) (gW g) true q f 11) = c10 at d10
      have H10 := H.ak d10.1
      have mo : moP (mk B c10 h) (B + 11) (cL c10 12) := ⟨B + 12, as_F B c10 h, fun j hj => by rw [k_ask.ld c10 h (inb_nI (show j < 12 from hj) (by decide)), nI_c (by omega)]⟩
      obtain ⟨v, h', m1, m2, m3, m4, m5, m6, m7, m8⟩ := x_meets (D := D) (c := c10) hN hD qu hw mo (x_looked H10.2.1) f
      have ev : sQv (gK g) (gW g) q f cs = v := by
        unfold sQv
        have er : sRun (fun j => sClip (cL c10 12 j)) (fun x => sClip (lkV (gK g) c10 x)) cs [] = sRun (qP (gK g) (gW g) q f) (qB (gK g) (gW g) f) cs [] := sRun_same (al := alOf 2) (fun j hj hj12 => by
          have hj' : j < 5 ∨ (7 ≤ j ∧ j ≤ 12) := by
            unfold alOf at hj
            rw [if_pos rfl] at hj
            exact of_decide_eq_true hj
          unfold qP
          rw [d10.2.2 j (by omega) (by rcases (show j = 0 ∨ j = 1 ∨ j = 2 ∨ j = 3 ∨ j = 4 ∨ j = 7 ∨ j = 8 ∨ j = 9 ∨ j = 10 ∨ j = 11 by omega) with rfl | rfl | rfl | rfl | rfl | rfl | rfl | rfl | rfl | rfl <;> rfl)]) (fun x => by unfold qB; rw [lk_of hk hwo f8 d10.2.1 (fun q hq => (H10.2.2.1.2.1.2.2.2 q hq).2.1)]) cs [] 1 hd hno
        rw [← er, m2]
      have eS : sAsk (gK g) (gW g) q kd cs (f + 1) = sTk kd (sQv (gK g) (gW g) q f cs) f (sAsk (gK g) (gW g) q kd cs f) := itN_S _ _ _
      rw [x0_F18, vI_s, d10.2.1, x0_F7, vA_s, (x_answer (c := c10) hN qu).2, ckc_s, m1, bnv_s, x0_F18, vI_s, d10.2.1, x0_pI c10 h' 18 (by decide), bnv_s, nI_1]
      have gg : hGr h0 h' := ⟨by rw [m5]; exact hg.1, by rw [m6]; exact hg.2.1, fun a ha => by rw [m7 a (by have := qu.1.1; omega)]; exact hg.2.2 a ha⟩
      obtain ⟨c', h'', L', F', z1, z2, z3, z4, z5, z6, z7, z8⟩ := IH (xI c10 0 18 (nI (f + 1))) h' _ _ cf (by omega) (H0.ak (d10.1.tr (cAk.i _ _))) gg m8 (cI_xI_eq _ _ _ _) m4 (by rw [eS, ev]; exact qR_s f8 qr m3)
      exact ⟨c', h'', L', F', z1, z2, z3, z4, by omega, by omega, z7, z8⟩
    · have ef : f = kF (gK g) := by omega
      rw [if_pos (nI_le (by omega) (by omega))]
      subst ef
      exact ⟨c, h, L, F, rfl, H0, hg, hw, rfl, rfl, qu, qr⟩
end TK
