/-! PART 54: plain: the component ahead: gift, law -/
set_option maxRecDepth 100000
section GI
variable {D : PD} {B : Nat} {g : SG} {c0 c : CZ} {h0 : PH}
theorem sIs_1 {w : SW} {p f : Nat} : sIs w p f = 1 ↔ (wR w p).testBit f = true := by
  unfold sIs
  cases (wR w p).testBit f <;> cases (wW w p).testBit f <;> decide
theorem x_gift (hD : ∃ q, dS D 7 = va_rf q) (h : cG B g c h0) (a n what : Int32) : ∃ c', fX0_gift D B a n what (mk B c h0) = some ((if sPn (kP (gK g)) a = true ∧ sAh (gW g) n 0 20 = true ∧ sIn what 0 1 = true then spGift (gK g) (gW g) a.toNatClampNeg n.toNatClampNeg what else -1), mk B c' h0) ∧ cG B g c' h0 := by
  have h1 := h.2.1
  have h8 := h1.1.2.1
  have hF := h1.1.1
  have now := h.2.2.1
  have hw := now.1
  have fin : Ok (fX0_gift D B a n what (mk B c h0)) (fun r => r.1 = (if sPn (kP (gK g)) a = true ∧ sAh (gW g) n 0 20 = true ∧ sIn what 0 1 = true then spGift (gK g) (gW g) a.toNatClampNeg n.toNatClampNeg what else -1) ∧ ∃ c', r.2 = mk B c' h0 ∧ cG B g c' h0) := by
    unfold fX0_gift
    rw [x0_cls, ckc_s, x_isPerson h1, bnd_s]
    cases e : sPn (kP (gK g)) a with
    | false => exact Ok.of ⟨rfl, c, rfl, h⟩
    | true =>
    obtain ⟨q, hq, rfl⟩ := sPn_nat e h8
    rw [if_neg (by decide), x0_cls, ckc_s, x_isAhead now.1 now.2.1 _ 0 20 (by decide) (by decide), bnd_s, show (0 : Int32).toInt = 0 from by decide, show (20 : Int32).toInt = 20 from by decide]
    cases e1 : sAh (gW g) n 0 20 with
    | false => exact Ok.of ⟨rfl, c, rfl, h⟩
    | true =>
    obtain ⟨n, rfl, -, h20, h99⟩ := sAh_nat e1 (by decide) (by decide)
    rw [if_neg (by decide), x_is, bnd_s, show (0 : Int32).toInt = 0 from by decide, show (1 : Int32).toInt = 1 from by decide]
    cases e2 : sIn what 0 1 with
    | false => exact Ok.of ⟨rfl, c, rfl, h⟩
    | true =>
    -- who is a doctor behind n years
    have doc : ∀ v b, cTr B (gK g) c v b → wY v = wY (gW g) → ∃ b', fX5_years D (B + 51) (nI n) (mk B b h0) = some (B + 51, mk B b' h0) ∧ cTr B (gK g) c (sYears (gK g) n v) b' ∧ pF (mk B b' h0) (B + 51) 5 2 = some (.int (nI (sWho (sYears (gK g) n v) (kP (gK g)) 1))) ∧ fX0_has (nI (sWho (sYears (gK g) n v) (kP (gK g)) 1)) (nI q) (mk B b' h0) = some ((wF (sYears (gK g) n v) q).testBit 1, mk B b' h0) := fun v b hb hy => by
      obtain ⟨b', q1, q2⟩ := hb.years hD h (n := n) (by omega)
      refine ⟨b', q1, q2, by rw [st_F2 is51, q2.2.2.1.2.2.1], ?_⟩
      rw [has_v (sWho_lt _ _ _ h8) (by omega), sWho_bit _ _ _ h8 q (by omega), decide_eq_true hq, Bool.true_and]
    obtain ⟨c1, q1, q2⟩ := x_start h (cFr.rf 51 c) h.2.2.2.1
    obtain ⟨c2, q3, q4, q5, q6⟩ := doc _ _ q2 rfl
    rw [if_neg (by decide), if_pos ⟨rfl, rfl, rfl⟩, nI_c (by omega), nI_c (by omega), x0_F10, vA_s, x0_F9, vA_s, st_cls is51, ckc_s, q1, bnd_s, st_cls is51, ckc_s, q3, bnd_s, q5, vI_s, q6, bnd_s]
    unfold spGift
    cases hd : (wF (sYears (gK g) n (gW g)) q).testBit 1 with
    | true =>
      rw [if_neg (by decide), if_pos rfl]
      exact Ok.of ⟨rfl, c2, rfl, q4.all h⟩
    | false =>
    rw [if_pos (by decide), if_neg (show ¬ false = true by decide), jn_s]
    refine fx_okN (F := fX0_gift_L64 D B (nI q) (nI n) _) (z := fun _ _ _ _ => none) (fun s j (b : (Nat × Nat) × CZ) => s (nI b.1.1 - 1) (nI b.1.2 - 1) (nI j) (mk B b.2 h0)) (kP (gK g)) (fun j b => gif_ok (gK g) b.1 ∧ b.1 = itN (fun p a => itN (sGifS (gK g) (gW g) q n p) (kF (gK g)) 0 a) j 0 (0, 0) ∧ cFr 51 c b.2 ∧ cPi B 51 b.2) _ ?_ ?_ FU 0 ((0, 0), c2) (Nat.zero_le _) ⟨⟨Nat.zero_le _, Nat.zero_le _, Iff.rfl⟩, rfl, q4.1, q4.2.2.2.pi⟩ (FU_gt (by omega))
    · rintro s j ⟨a, b⟩ hj ⟨hg, ha, hf, hpi⟩ go
      have hg : gif_ok (gK g) a := hg
      have ha : a = itN (fun p a => itN (sGifS (gK g) (gW g) q n p) (kF (gK g)) 0 a) j 0 (0, 0) := ha
      have hf : cFr 51 c b := hf
      have xb := hf.sc is51 h1
      show Ok (fX0_gift_L64 D B (nI q) (nI n) _ s (nI a.1 - 1) (nI a.2 - 1) (nI j) (mk B b h0)) _
      unfold fX0_gift_L64
      rw [x0_cls, ckc_s, x_people xb, bnd_s, if_neg (nI_ge hj (by omega)), jn_s]
      refine fx_okN (F := fX0_gift_L76 D B (nI q) (nI n) (nI j) _) (z := fun _ _ _ _ => none) (fun s f (b : (Nat × Nat) × CZ) => s (nI b.1.1 - 1) (nI b.1.2 - 1) (nI f) (mk B b.2 h0)) (kF (gK g)) (fun f b => gif_ok (gK g) b.1 ∧ b.1 = itN (sGifS (gK g) (gW g) q n j) f 0 a ∧ cFr 51 c b.2 ∧ cPi B 51 b.2) _ ?_ ?_ FU 0 (a, b) (Nat.zero_le _) ⟨hg, rfl, hf, hpi⟩ (FU_gt (by omega))
      · rintro s2 f ⟨d, y⟩ hf' ⟨hd', he, hfy, hpy⟩ go2
        have hd' : gif_ok (gK g) d := hd'
        have he : d = itN (sGifS (gK g) (gW g) q n j) f 0 a := he
        have hfy : cFr 51 c y := hfy
        have xy := hfy.sc is51 h1
        have ny := now.fr is14 is51 (by decide) hfy
        have hSt : itN (sGifS (gK g) (gW g) q n j) (f + 1) 0 a = sGifS (gK g) (gW g) q n j f d := by rw [he]; exact itN_S _ _ _
        have hb' := sGifS_ok (w := gW g) (q := q) (n := n) hj hf' hd'
        have gon : ∀ (b2 : Nat × Nat) (y2 : CZ), cFr 51 c y2 → cPi B 51 y2 → b2 = sGifS (gK g) (gW g) q n j f d → Ok (s2 (nI b2.1 - 1) (nI b2.2 - 1) (nI f + 1) (mk B y2 h0)) (fun r => r.1 = (if what = 0 then nI (sGif (gK g) (gW g) q n).1 - 1 else nI (sGif (gK g) (gW g) q n).2 - 1) ∧ ∃ c', r.2 = mk B c' h0 ∧ cG B g c' h0) := fun b2 y2 z1 z2 z3 => by
          rw [nI_1]
          exact go2 (b2, y2) ⟨by rw [z3]; exact hb', by rw [hSt]; exact z3, z1, z2⟩
        show Ok (fX0_gift_L76 D B (nI q) (nI n) (nI j) _ s2 (nI d.1 - 1) (nI d.2 - 1) (nI f) (mk B y h0)) _
        unfold fX0_gift_L76
        rw [x0_cls, ckc_s, x_facts xy, bnd_s, if_neg (nI_ge hf' (by omega)), x0_F9, vA_s, st_F5 is14, vA_s, st_r is14 ny.2.1 hj h8, ob_s, has_v (ny.1.r8 h1.1 hj) (by omega), bnd_s]
        simp only [jn_s]
        unfold sGifS at gon
        have s1 := sIs_1 (w := gW g) (p := j) (f := f)
        cases v1 : (wR (gW g) j).testBit f with
        | true =>
          rw [if_neg (by decide)]
          exact gon d y hfy hpy (by rw [if_pos (Or.inl (s1.mpr v1))])
        | false =>
          have s1 : ¬ sIs (gW g) j f = 1 := fun z => by rw [s1.mp z] at v1; cases v1
          rw [if_pos (by decide)]
          have try1 : ¬ (d.1 ≠ 0 ∧ kWo (gK g) (d.2 - 1) ≤ kWo (gK g) f) → Ok (vA (pF (mk B y h0) B 0 10) fun p7 => vA (pF (mk B y h0) B 0 9) fun p8 => ckc (pCls (mk B y h0) p7) 5 <| bnd (fX5_copy p7 p8 (mk B y h0)) fun p9 h16 => ckc (pCls h16 p9) 5 <| bnv (fX5_hears p9 (nI j) (nI f) h16) fun h17 => vA (pF h17 B 0 10) fun p10 => ckc (pCls h17 p10) 5 <| bnd (fX5_years D p10 (nI n) h17) fun p11 h18 => vI (pF h18 p11 5 2) fun v3 => bnd (fX0_has v3 (nI q) h18) fun r8 h19 => if (bI r8) = 0 then s2 (nI d.1 - 1) (nI d.2 - 1) (nI f + 1) h19 else s2 (nI j) (nI f) (nI f + 1) h19) (fun r => r.1 = (if what = 0 then nI (sGif (gK g) (gW g) q n).1 - 1 else nI (sGif (gK g) (gW g) q n).2 - 1) ∧ ∃ c', r.2 = mk B c' h0 ∧ cG B g c' h0) := fun hc => by
            rw [if_neg (fun z => z.elim s1 hc)] at gon
            obtain ⟨y1, z1, z2⟩ := x_start h hfy hpy
            obtain ⟨y2, z3, z4, z5⟩ := x_hears (h0 := h0) h1.1 is51 z2.2 hj hf'
            obtain ⟨y3, z6, z7, z8, z9⟩ := doc (sMake (gW g) j f 1) y2 ⟨z2.1.tr z4, z5⟩ rfl
            rw [x0_F10, vA_s, x0_F9, vA_s, st_cls is51, ckc_s, z1, bnd_s, st_cls is51, ckc_s, z3, bnv_s, x0_F10, vA_s, st_cls is51, ckc_s, z6, bnd_s, z8, vI_s, z9, bnd_s]
            cases hh : (wF (sYears (gK g) n (sMake (gW g) j f 1)) q).testBit 1 with
            | false =>
              rw [hh] at gon
              rw [if_pos (by decide)]
              exact gon d y3 z7.1 z7.2.2.2.pi (by rw [if_neg (by decide)])
            | true =>
              rw [hh] at gon
              rw [if_neg (by decide)]
              have := gon (j + 1, f + 1) y3 z7.1 z7.2.2.2.pi (by rw [if_pos rfl])
              have this : Ok (s2 (nI (j + 1) - 1) (nI (f + 1) - 1) (nI f + 1) (mk B y3 h0)) _ := this
              rw [nI_pred, nI_pred] at this
              exact this
          obtain ⟨b1, b2, b3⟩ := hd'
          by_cases z0 : d.1 = 0
          · rw [if_pos (by rw [z0]; decide)]
            exact try1 (fun z => z.1 z0)
          · have z2 : d.2 ≠ 0 := fun z => z0 (b3.mpr z)
            have w1 := h1.1.2.2.1 f hf'
            have w2 := h1.1.2.2.1 (d.2 - 1) (by omega)
            rw [if_neg (m1_ne z0 (by omega)), x0_cls, ckc_s, x_worthOf xy hf', bnd_s, x0_cls, ckc_s, nI_m1 (show 0 < d.2 by omega), x_worthOf xy (show d.2 - 1 < kF (gK g) by omega), bnd_s]
            by_cases cw : kWo (gK g) (d.2 - 1) ≤ kWo (gK g) f
            · rw [if_neg (nI_nlt cw (by omega))]
              have := gon d y hfy hpy (by rw [if_pos (Or.inr ⟨z0, cw⟩)])
              rw [nI_m1 (show 0 < d.2 by omega)] at this
              exact this
            · rw [if_pos (nI_lt (by omega) (by omega))]
              have := try1 (fun z => cw z.2)
              rw [nI_m1 (show 0 < d.2 by omega)] at this
              exact this
      · rintro s2 ⟨d, y⟩ ⟨hd', he, hfy, hpy⟩
        have he : d = itN (sGifS (gK g) (gW g) q n j) (kF (gK g)) 0 a := he
        have hfy : cFr 51 c y := hfy
        have xy := hfy.sc is51 h1
        show Ok (fX0_gift_L76 D B (nI q) (nI n) (nI j) _ s2 (nI d.1 - 1) (nI d.2 - 1) (nI (kF (gK g))) (mk B y h0)) _
        unfold fX0_gift_L76
        rw [x0_cls, ckc_s, x_facts xy, bnd_s, if_pos (nI_le (Nat.le_refl _) (by omega)), nI_1]
        refine go (d, y) ⟨hd', ?_, hfy, hpy⟩
        rw [itN_S, ← ha]
        exact he
    · rintro s ⟨a, b⟩ ⟨hg, ha, hf, hpi⟩
      have ha : a = sGif (gK g) (gW g) q n := ha
      have hf : cFr 51 c b := hf
      have xb := hf.sc is51 h1
      show Ok (fX0_gift_L64 D B (nI q) (nI n) _ s (nI a.1 - 1) (nI a.2 - 1) (nI (kP (gK g))) (mk B b h0)) _
      unfold fX0_gift_L64
      rw [x0_cls, ckc_s, x_people xb, bnd_s, if_pos (nI_le (Nat.le_refl _) (by omega)), ← ha]
      have gb := h.fr hf hpi
      dsimp only
      by_cases cw : what = 0
      · rw [if_pos cw, if_pos cw]; exact Ok.of ⟨rfl, b, rfl, gb⟩
      · rw [if_neg cw, if_neg cw]; exact Ok.of ⟨rfl, b, rfl, gb⟩
  obtain ⟨⟨r, h'⟩, e, q1, c', q2, q3⟩ := fin
  have q2 : h' = mk B c' h0 := q2
  exact ⟨c', by rw [e, q2]; cases q1; rfl, q3⟩
/-- the tries of one are written -/
theorem cAll.left {k : SK} {w : SW} {s : Nat} (h : cAll B k w s c) {p v : Nat} (hv : v ≤ 9) : cAll B k (uL w p v) s (xI c (s + 4) p (nI v)) := by
  obtain ⟨hw, ht, hr⟩ := h
  refine ⟨hw.left hv, ⟨?_, ?_, ?_, fun q hq => ?_⟩, hr.i (by omega) _⟩
  · rw [cI_x, if_neg (by omega)]; exact ht.1
  · rw [cI_x, if_neg (by omega)]; exact ht.2.1
  · rw [cI_x, if_neg (by omega)]; exact ht.2.2.1
  · obtain ⟨z1, z2, z3, z4⟩ := ht.2.2.2 q hq
    refine ⟨?_, ?_, ?_, ?_⟩
    · rw [cI_x, if_neg (by omega)]; exact z1
    · rw [cI_x, if_neg (by omega)]; exact z2
    · rw [cI_x, if_neg (by omega)]; exact z3
    · rw [cI_x, wL_u]
      by_cases e : q = p
      · rw [if_pos ⟨rfl, e⟩, if_pos e]
      · rw [if_neg (fun x => e x.2), if_neg e]; exact z4
theorem uL_own (w : SW) (p : Nat) : uL w p (wL' w p) = w := by
  unfold uL
  have : va_up w.2.2.2.2.1 p (wL' w p) = w.2.2.2.2.1 := by
    funext j
    by_cases e : j = p
    · rw [e, va_up_self]; rfl
    · rw [va_up_ne _ _ e]
  rw [this]
theorem x_law (hD : ∃ q, dS D 7 = va_rf q) (h : cG B g c h0) (n what : Int32) : ∃ c', fX0_law D B n what (mk B c h0) = some ((if sAh (gW g) n 0 20 = true ∧ sIn what 0 1 = true then spLaw (gK g) (gW g) n.toNatClampNeg what else -1), mk B c' h0) ∧ cG B g c' h0 := by
  have h1 := h.2.1
  have h8 := h1.1.2.1
  have now := h.2.2.1
  have hw := now.1
  have fin : Ok (fX0_law D B n what (mk B c h0)) (fun r => r.1 = (if sAh (gW g) n 0 20 = true ∧ sIn what 0 1 = true then spLaw (gK g) (gW g) n.toNatClampNeg what else -1) ∧ ∃ c', r.2 = mk B c' h0 ∧ cG B g c' h0) := by
    unfold fX0_law
    rw [x0_cls, ckc_s, x_isAhead now.1 now.2.1 _ 0 20 (by decide) (by decide), bnd_s, show (0 : Int32).toInt = 0 from by decide, show (20 : Int32).toInt = 20 from by decide]
    cases e1 : sAh (gW g) n 0 20 with
    | false => exact Ok.of ⟨rfl, c, rfl, h⟩
    | true =>
    obtain ⟨n, rfl, -, h20, h99⟩ := sAh_nat e1 (by decide) (by decide)
    rw [if_neg (by decide), x_is, bnd_s, show (0 : Int32).toInt = 0 from by decide, show (1 : Int32).toInt = 1 from by decide]
    cases e2 : sIn what 0 1 with
    | false => exact Ok.of ⟨rfl, c, rfl, h⟩
    | true =>
    rw [if_neg (by decide), if_pos ⟨rfl, rfl⟩, nI_c (by omega), jn_s]
    refine fx_okN (F := fX0_law_L30 D B (nI n) _) (z := fun _ _ _ _ => none) (fun s j (b : (Nat × Nat) × CZ) => s (if j = 0 then -1 else nI b.1.1) (nI b.1.2 - 1) (nI j) (mk B b.2 h0)) 10 (fun j b => b.1 = sLaw (gK g) (gW g) n j ∧ cFr 51 c b.2 ∧ cPi B 51 b.2) _ ?_ ?_ FU 0 ((0, 0), c) (Nat.zero_le _) ⟨rfl, cFr.rf 51 c, h.2.2.2.1⟩ (FU_gt (by decide))
    · rintro s t ⟨a, b⟩ htt ⟨ha, hf, hpi⟩ go
      have ha : a = sLaw (gK g) (gW g) n t := ha
      have hf : cFr 51 c b := hf
      have hin := sLaw_in (w := gW g) h1.1 n t
      rw [← ha] at hin
      have hSt : sLaw (gK g) (gW g) n (t + 1) = sLawS (gK g) (gW g) n t a := by rw [ha]; exact itN_S _ _ _
      obtain ⟨c1, q1, q2⟩ := x_start h hf hpi
      show Ok (fX0_law_L30 D B (nI n) _ s (if t = 0 then -1 else nI a.1) (nI a.2 - 1) (nI t) (mk B b h0)) _
      unfold fX0_law_L30
      rw [if_neg (show ¬ (9 : Int32) < nI t from nI_nlt (a := 9) (by omega) (by decide)), x0_F10, vA_s, x0_F9, vA_s, st_cls is51, ckc_s, q1, bnd_s]
      simp only [jn_s]
      refine fx_okN (F := fX0_law_L52 B (nI t) _) (z := fun _ _ => none) (fun s j (y : CZ) => s (nI j) (mk B y h0)) (kP (gK g)) (fun j y => cTr B (gK g) c (sTry (gW g) t j) y) _ ?_ ?_ FU 0 c1 (Nat.zero_le _) q2 (FU_gt (by omega))
      · intro s2 j y hj hy go2
        have ny := hy.now now
        have xy := hy.sc h1
        have hS2 : sTry (gW g) t (j + 1) = sTryS (gW g) t j (sTry (gW g) t j) := itN_S _ _ _
        rw [hS2] at go2
        have l0 := sWho_lt (gW g) (kP (gK g)) 0 h8
        have bt : (sWho (gW g) (kP (gK g)) 0).testBit j = (wF (gW g) j).testBit 0 := by rw [sWho_bit _ _ _ h8 j (by omega), decide_eq_true hj, Bool.true_and]
        have in8 : inb (nI j) 8 = true := inb_nI (by omega) (by decide)
        show Ok (fX0_law_L52 B (nI t) _ s2 (nI j) (mk B y h0)) _
        unfold fX0_law_L52
        rw [x0_cls, ckc_s, x_people xy, bnd_s, if_neg (nI_ge hj (by omega)), x0_F10, vA_s, st_F7 is51, vA_s, x0_F9, vA_s, st_F1 is14, vI_s, ny.2.1.2.1, has_v l0 (by omega), bnd_s, bt]
        simp only [jn_s]
        unfold sTryS at go2
        cases cp : (wF (gW g) j).testBit 0 with
        | false =>
          rw [cp, if_neg (by decide)] at go2
          rw [if_pos (by decide), Nat.add_assoc B 51 4, (st_k4 is51).st y h0 in8, bnv_s, nI_c (by omega), nI_1]
          exact go2 _ ⟨hy.1.tr (cFr.x y (by omega) _ _), hy.2.left (by omega)⟩
        | true =>
          rw [cp, if_pos rfl] at go2
          rw [if_neg (by decide), x0_F9, vA_s, st_F7 is14, vA_s, st_l is14 ny.2.1 hj h8, ob_s, Nat.add_assoc B 51 4, (st_k4 is51).st y h0 in8, bnv_s, nI_c (by omega), nI_1]
          have el : wL' (sTry (gW g) t j) j = wL' (gW g) j := by
            have := itN_inv (Inv := fun i v => ∀ q, i ≤ q → wL' v q = wL' (gW g) q) (m := j) (st := sTryS (gW g) t) (fun i v hi hv => by
              intro q hq
              unfold sTryS
              split
              · exact hv q (by omega)
              · rw [wL_u, if_neg (by omega)]
                exact hv q (by omega)) j 0 (gW g) (by omega) (fun _ _ => rfl)
            rw [Nat.zero_add] at this
            exact this j (Nat.le_refl _)
          have al := hy.2.left (p := j) (v := wL' (gW g) j) ((hw.2.2 j hj).2.2.2.2.1)
          rw [← el, uL_own, el] at al
          exact go2 _ ⟨hy.1.tr (cFr.x y (by omega) _ _), al⟩
      · intro s2 y hy
        have xy := hy.sc h1
        show Ok (fX0_law_L52 B (nI t) _ s2 (nI (kP (gK g))) (mk B y h0)) _
        unfold fX0_law_L52
        rw [x0_cls, ckc_s, x_people xy, bnd_s, if_pos (nI_le (Nat.le_refl _) (by omega))]
        have o3 := (sTry_ok (k := gK g) hw (t := t) (by omega) (kP (gK g))).2.2
        obtain ⟨y2, q3, q4⟩ := hy.years hD h (n := n) (by omega)
        have hlt := sWho_lt (sYears (gK g) n (sTry (gW g) t (kP (gK g)))) (kP (gK g)) 1 h8
        have hp8 := pop_le _ hlt
        dsimp only
        rw [x0_F10, vA_s, st_cls is51, ckc_s, q3, bnd_s, st_F2 is51, vI_s, q4.2.2.1.2.2.1, bitCount_v hlt, bnd_s]
        unfold sLawS at hSt
        generalize pop (sWho (sYears (gK g) n (sTry (gW g) t (kP (gK g)))) (kP (gK g)) 1) = m at hSt hp8 ⊢
        by_cases cm : a.2 ≤ m
        · rw [if_pos cm] at hSt
          have clt : nI a.2 - 1 < nI m := by
            by_cases z0 : a.2 = 0
            · rw [z0, Int32.lt_iff_toInt_lt, nI_toInt (by omega), show (nI 0 - 1).toInt = -1 from by decide]
              omega
            · rw [nI_m1 (by omega)]
              exact nI_lt (by omega) (by omega)
          rw [if_pos clt, nI_1]
          have := go ((t, m + 1), y2) ⟨hSt.symm, q4.1, q4.2.2.2.pi⟩
          have this : Ok (s (if t + 1 = 0 then -1 else nI t) (nI (m + 1) - 1) (nI (t + 1)) (mk B y2 h0)) _ := this
          rw [nI_pred, if_neg (by omega)] at this
          exact this
        · rw [if_neg cm] at hSt
          have t0 : t ≠ 0 := fun z => by
            rw [z] at ha
            have : a = (0, 0) := ha
            rw [this] at cm
            exact cm (Nat.zero_le _)
          rw [nI_m1 (by omega), if_neg (nI_nlt (by omega) (by omega)), nI_1, ← nI_m1 (show 0 < a.2 by omega)]
          have := go (a, y2) ⟨hSt.symm, q4.1, q4.2.2.2.pi⟩
          have this : Ok (s (if t + 1 = 0 then -1 else nI a.1) (nI a.2 - 1) (nI (t + 1)) (mk B y2 h0)) _ := this
          rw [if_neg (by omega)] at this
          rw [if_neg t0]
          exact this
    · rintro s ⟨a, b⟩ ⟨ha, hf, hpi⟩
      have ha : a = sLaw (gK g) (gW g) n 10 := ha
      have hf : cFr 51 c b := hf
      show Ok (fX0_law_L30 D B (nI n) _ s (if 10 = 0 then -1 else nI a.1) (nI a.2 - 1) (nI 10) (mk B b h0)) _
      unfold fX0_law_L30
      rw [if_pos (by decide), if_neg (by decide)]
      unfold spLaw
      rw [← ha]
      have gb := h.fr hf hpi
      dsimp only
      by_cases cw : what = 0
      · rw [if_pos cw, if_pos cw]; exact Ok.of ⟨rfl, b, rfl, gb⟩
      · rw [if_neg cw, if_neg cw]; exact Ok.of ⟨rfl, b, rfl, gb⟩
  obtain ⟨⟨r, h'⟩, e, q1, c', q2, q3⟩ := fin
  have q2 : h' = mk B c' h0 := q2
  exact ⟨c', by rw [e, q2]; cases q1; rfl, q3⟩
end GI
