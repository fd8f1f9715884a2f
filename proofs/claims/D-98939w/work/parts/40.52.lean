/-! PART 52: plain: the component ahead: later, doctor, lost, master -/
set_option maxRecDepth 100000
/-- thought: the State tried holds v, all else is as in c0 -/
def cTr (B : Nat) (k : SK) (c0 : CZ) (v : SW) (c : CZ) : Prop := cFr 51 c0 c ∧ cAll B k v 51 c
section AH
variable {D : PD} {B : Nat} {g : SG} {c0 c : CZ} {h0 : PH} {v : SW}
theorem cTr.sc {k : SK} {nm : Nat → Nat → List Nat} (h : cTr B k c0 v c) (hx : cSc B k nm c0 h0) : cSc B k nm c h0 := h.1.sc is51 hx
theorem cTr.now {k : SK} {w : SW} (h : cTr B k c0 v c) (ha : cAll B k w 14 c0) : cAll B k w 14 c := ha.fr is14 is51 (by decide) h.1
theorem cTr.all {k : SK} (h : cTr B k c0 v c) (hg : cG B g c0 h0) : cG B g c h0 := hg.fr h.1 h.2.2.2.pi
theorem x_start (hg : cG B g c0 h0) {c : CZ} (hf : cFr 51 c0 c) (hp : cPi B 51 c) : ∃ c', fX5_copy (B + 51) (B + 14) (mk B c h0) = some (B + 51, mk B c' h0) ∧ cTr B (gK g) c0 (gW g) c' := by
  obtain ⟨c', e1, e2, e3⟩ := x_copy (h0 := h0) is51 is14 (by decide) hg.2.1.1.2.1 (hg.2.2.1.fr is14 is51 (by decide) hf) hp
  exact ⟨c', e1, hf.tr e2, e3⟩
theorem cTr.years (hD : ∃ q, dS D 7 = va_rf q) (hg : cG B g c0 h0) (h : cTr B (gK g) c0 v c) {n : Nat} (hy : wY v + n ≤ 2000) : ∃ c', fX5_years D (B + 51) (nI n) (mk B c h0) = some (B + 51, mk B c' h0) ∧ cTr B (gK g) c0 (sYears (gK g) n v) c' := by
  obtain ⟨c', e1, e2, e3⟩ := x_years hD (h.sc hg.2.1) is51 h.2 hy
  exact ⟨c', e1, h.1.tr e2, e3⟩
theorem x_later (hD : ∃ q, dS D 7 = va_rf q) (h : cG B g c h0) (n what : Int32) : ∃ c', fX0_later D B n what (mk B c h0) = some (spLater (gK g) (gW g) n what, mk B c' h0) ∧ cG B g c' h0 := by
  have h1 := h.2.1
  have h8 := h1.1.2.1
  obtain ⟨hw, ht, hr⟩ := h.2.2.1
  unfold fX0_later spLater
  rw [x0_cls, ckc_s, x_isAhead hw ht n 0 40 (by decide) (by decide), bnd_s, show (0 : Int32).toInt = 0 from by decide, show (40 : Int32).toInt = 40 from by decide]
  cases e1 : sAh (gW g) n 0 40 with
  | false =>
    rw [if_pos (by decide), if_neg (by simp)]
    exact ⟨c, rfl, h⟩
  | true =>
  rw [if_neg (by decide), x_is, bnd_s, show (0 : Int32).toInt = 0 from by decide, show (3 : Int32).toInt = 3 from by decide]
  cases e2 : sIn what 0 3 with
  | false =>
    rw [if_pos (by decide), if_neg (by simp)]
    exact ⟨c, rfl, h⟩
  | true =>
  obtain ⟨m, rfl, -, h40, h99⟩ := sAh_nat e1 (by decide) (by decide)
  obtain ⟨a, rfl, -, ha⟩ := sIn_nat e2 (by decide) (by decide)
  obtain ⟨c1, q1, q2⟩ := x_start h (cFr.rf 51 c) h.2.2.2.1
  obtain ⟨c2, q3, q4⟩ := q2.years hD h (n := m) (by omega)
  obtain ⟨vw, vt, vr⟩ := q4.2
  have x2 := q4.sc h1
  rw [if_neg (by decide), if_pos ⟨rfl, rfl⟩, x0_F10, vA_s, x0_F9, vA_s, st_cls is51, ckc_s, q1, bnd_s, st_cls is51, ckc_s, q3, bnd_s, nI_c (by omega)]
  simp only [jn_s]
  refine ⟨c2, ?_, q4.all h⟩
  rcases (show a = 0 ∨ a = 1 ∨ a = 2 ∨ a = 3 by omega) with rfl | rfl | rfl | rfl
  · rw [if_pos (by decide), if_pos (by decide), x0_F10, vA_s, st_F1 is51, vI_s, vt.2.1]
  · rw [if_neg (by decide), if_pos (by decide), if_neg (by decide), if_pos (by decide), x0_F10, vA_s, st_F2 is51, vI_s, vt.2.2.1]
  · rw [if_neg (by decide), if_neg (by decide), if_neg (by decide), if_neg (by decide), x0_F10, vA_s, if_neg (by decide), st_cls is51, ckc_s, x_beliefs x2 is51 vw vt, bnd_s]
    rfl
  · rw [if_neg (by decide), if_neg (by decide), if_neg (by decide), if_neg (by decide), x0_F10, vA_s, if_pos (by decide), st_cls is51, ckc_s, x_beliefs x2 is51 vw vt, bnd_s]
    rfl
theorem sYears_1 (k : SK) (v : SW) : sYears k 1 v = sYear k v 0 := rfl
theorem ah_nat {w : SW} {j : Nat} (hj : j ≤ 41) : sAh w (nI j) 0 40 = decide (j ≤ 40 ∧ wY w + j ≤ 999) := by
  unfold sAh sIn
  rw [nI_toInt (by omega)]
  by_cases c1 : j ≤ 40
  · rw [decide_eq_true (show (0 : Int) ≤ j ∧ (j : Int) ≤ 40 by omega), Bool.true_and]
    by_cases c2 : wY w + j ≤ 999
    · rw [decide_eq_true (by omega), decide_eq_true ⟨c1, c2⟩]
    · rw [decide_eq_false (by omega), decide_eq_false (fun q => c2 q.2)]
  · rw [decide_eq_false (show ¬ ((0 : Int) ≤ j ∧ (j : Int) ≤ 40) by omega), Bool.false_and, decide_eq_false (fun q => c1 q.1)]
/-- thought years go till P holds -/
theorem x_till {β : Type} (P : SW → Bool) {F : (Int32 → PH → Option β) → Int32 → PH → Option β} {z0 : Int32 → PH → Option β} {Q : β → Prop} (hD : ∃ q, dS D 7 = va_rf q) (hg : cG B g c0 h0) {c : CZ} (th : cTr B (gK g) c0 (gW g) c) {KY KN : Nat → CZ → Option β}
    (hF : ∀ (s : Int32 → PH → Option β) (j : Nat) (v : SW) (c : CZ), j ≤ 41 → cTr B (gK g) c0 v c → F s (nI j) (mk B c h0) = if sAh (gW g) (nI j) 0 40 = true then (if P v = true then KY j c else bnd (fX5_years D (B + 51) 1 (mk B c h0)) fun _ h' => s (nI j + 1) h') else KN j c)
    (hY : ∀ (j : Nat) (v : SW) (c : CZ), j ≤ 40 → cTr B (gK g) c0 v c → sTill (gK g) P 40 (gW g) 0 = some j → Ok (KY j c) Q)
    (hN : ∀ (j : Nat) (v : SW) (c : CZ), cTr B (gK g) c0 v c → sTill (gK g) P 40 (gW g) 0 = none → Ok (KN j c) Q) : Ok (fx F z0 FU 0 (mk B c h0)) Q := by
  have hy := hg.1.1
  refine fx_okN (F := F) (z := z0) (fun s j (a : SW × CZ) => s (nI j) (mk B a.2 h0)) 41 (fun j a => cTr B (gK g) c0 a.1 a.2 ∧ wY a.1 = wY (gW g) + j ∧ (if j ≤ 40 ∧ wY (gW g) + j ≤ 999 then sTill (gK g) P (40 - j) a.1 j = sTill (gK g) P 40 (gW g) 0 else sTill (gK g) P 40 (gW g) 0 = none)) Q ?_ ?_ FU 0 (gW g, c) (Nat.zero_le _) ⟨th, rfl, by rw [if_pos ⟨by decide, by omega⟩]⟩ (FU_gt (by decide))
  · rintro s j ⟨v, c⟩ hj ⟨hx, hyv, hs⟩ go
    have hx : cTr B (gK g) c0 v c := hx
    have hyv : wY v = wY (gW g) + j := hyv
    have hs : if j ≤ 40 ∧ wY (gW g) + j ≤ 999 then sTill (gK g) P (40 - j) v j = sTill (gK g) P 40 (gW g) 0 else sTill (gK g) P 40 (gW g) 0 = none := hs
    show Ok (F s (nI j) (mk B c h0)) Q
    rw [hF s j v c (by omega) hx, ah_nat (by omega)]
    by_cases cc : j ≤ 40 ∧ wY (gW g) + j ≤ 999
    · rw [if_pos cc] at hs
      rw [if_pos (decide_eq_true cc)]
      by_cases cp : P v = true
      · rw [if_pos cp]
        rw [sTill_yes cp] at hs
        exact hY j v c cc.1 hx hs.symm
      · rw [if_neg cp]
        obtain ⟨c', q1, q2⟩ := hx.years hD hg (n := 1) (by omega)
        have q1 : fX5_years D (B + 51) 1 (mk B c h0) = some (B + 51, mk B c' h0) := q1
        rw [q1, bnd_s, nI_1]
        refine go (sYear (gK g) v 0, c') ⟨q2, by show wY (sYear (gK g) v 0) = _; rw [sYear_Y]; omega, ?_⟩
        show if j + 1 ≤ 40 ∧ wY (gW g) + (j + 1) ≤ 999 then sTill (gK g) P (40 - (j + 1)) (sYear (gK g) v 0) (j + 1) = sTill (gK g) P 40 (gW g) 0 else sTill (gK g) P 40 (gW g) 0 = none
        by_cases c40 : j = 40
        · rw [if_neg (by omega), ← hs, c40, Nat.sub_self]
          show (if P v = true then some 40 else none) = none
          rw [if_neg cp]
        · rw [show 40 - j = (40 - (j + 1)) + 1 by omega, sTill_S, if_neg cp] at hs
          by_cases c9 : wY v < 999
          · rw [if_pos c9] at hs
            rw [if_pos (by omega)]
            exact hs
          · rw [if_neg c9] at hs
            rw [if_neg (by omega)]
            exact hs.symm
    · rw [if_neg cc] at hs
      rw [if_neg (by rw [decide_eq_false cc]; decide)]
      exact hN j v c hx hs
  · rintro s ⟨v, c⟩ ⟨hx, hyv, hs⟩
    have hx : cTr B (gK g) c0 v c := hx
    have hs : if 41 ≤ 40 ∧ wY (gW g) + 41 ≤ 999 then sTill (gK g) P (40 - 41) v 41 = sTill (gK g) P 40 (gW g) 0 else sTill (gK g) P 40 (gW g) 0 = none := hs
    rw [if_neg (by omega)] at hs
    show Ok (F s (nI 41) (mk B c h0)) Q
    rw [hF s 41 v c (by omega) hx, ah_nat (by omega), if_neg (by rw [decide_eq_false (by omega)]; decide)]
    exact hN 41 v c hx hs
theorem x_doctor (hD : ∃ q, dS D 7 = va_rf q) (h : cG B g c h0) (a : Int32) : ∃ c', fX0_doctor D B a (mk B c h0) = some ((if sPn (kP (gK g)) a = true then spDoctor (gK g) (gW g) a.toNatClampNeg else -1), mk B c' h0) ∧ cG B g c' h0 := by
  have h1 := h.2.1
  have h8 := h1.1.2.1
  have now := h.2.2.1
  have fin : Ok (fX0_doctor D B a (mk B c h0)) (fun r => r.1 = (if sPn (kP (gK g)) a = true then spDoctor (gK g) (gW g) a.toNatClampNeg else -1) ∧ ∃ c', r.2 = mk B c' h0 ∧ cG B g c' h0) := by
    unfold fX0_doctor
    rw [x0_cls, ckc_s, x_isPerson h1, bnd_s]
    cases e : sPn (kP (gK g)) a with
    | false => exact Ok.of ⟨rfl, c, rfl, h⟩
    | true =>
    obtain ⟨p, hp, rfl⟩ := sPn_nat e h8
    obtain ⟨c1, q1, q2⟩ := x_start h (cFr.rf 51 c) h.2.2.2.1
    rw [if_neg (by decide), if_pos rfl, nI_c (by omega), x0_F10, vA_s, x0_F9, vA_s, st_cls is51, ckc_s, q1, bnd_s]
    refine x_till (c0 := c) (fun v => (wF v p).testBit 1) (F := fX0_doctor_L24 D B (nI p)) hD h q2 (KY := fun j c => some (nI j, mk B c h0)) (KN := fun j c => some (-1, mk B c h0)) (fun s j v c hj hx => ?_) (fun j v c hj hx hs => ?_) (fun j v c hx hs => ?_)
    · have nw := hx.now now
      have l1 := sWho_lt v (kP (gK g)) 1 h8
      have bt : (sWho v (kP (gK g)) 1).testBit p = (wF v p).testBit 1 := by rw [sWho_bit _ _ _ h8 p (by omega), decide_eq_true hp, Bool.true_and]
      unfold fX0_doctor_L24
      rw [x0_cls, ckc_s, x_isAhead nw.1 nw.2.1 _ 0 40 (by decide) (by decide), bnd_s, show (0 : Int32).toInt = 0 from by decide, show (40 : Int32).toInt = 40 from by decide]
      cases sAh (gW g) (nI j) 0 40 with
      | false => rfl
      | true =>
        rw [if_neg (by decide), if_pos rfl, x0_F10, vA_s, st_F2 is51, vI_s, hx.2.2.1.2.2.1, has_v l1 (by omega), bnd_s, bt]
        cases (wF v p).testBit 1 with
        | true => rfl
        | false => rw [if_pos (by decide), if_neg (by decide), x0_F10, vA_s, st_cls is51, ckc_s]
    · unfold spDoctor
      rw [hs]
      exact Ok.of ⟨rfl, c, rfl, hx.all h⟩
    · unfold spDoctor
      rw [hs]
      exact Ok.of ⟨rfl, c, rfl, hx.all h⟩
  obtain ⟨⟨r, h'⟩, e, q1, c', q2, q3⟩ := fin
  have q2 : h' = mk B c' h0 := q2
  exact ⟨c', by rw [e, q2]; cases q1; rfl, q3⟩
/-- how many are wrong of a fact in the State tried -/
theorem x_lostN {Q : Int32 × PH → Prop} {K : Int32 → PH → Option (Int32 × PH)} (h1 : cSc B (gK g) (gN g) c h0) (hv : wOk (gK g) v) (ht : cSt (gK g) v 51 c) {f : Nat} (hf : f < 8) : fx (fX0_lost_L47 B (nI f) K) (fun _ _ _ => none) FU 0 0 (mk B c h0) = K (nI (sWrM v (kP (gK g)) f)) (mk B c h0) := by
  have h8 := h1.1.2.1
  rw [sWrM_is hv hf _ (Nat.le_refl _)]
  refine fx_gen (F := fX0_lost_L47 B (nI f) K) (z := fun _ _ _ => none) (fun s j x => s (nI x) (nI j) (mk B c h0)) (kP (gK g)) (fun p s => s + if sIs v p f = 2 then 1 else 0) (fun _ _ => True) (fun a => K (nI a) (mk B c h0)) ?_ (fun _ _ _ _ => trivial) ?_ FU 0 0 (Nat.zero_le _) trivial (FU_gt (by omega))
  · intro s j x hj _
    have l := sIs_lt v j f
    show fX0_lost_L47 B (nI f) K s (nI x) (nI j) (mk B c h0) = _
    unfold fX0_lost_L47
    rw [x0_cls, ckc_s, x_people h1, bnd_s, if_neg (nI_ge hj (by omega)), x0_F10, vA_s, st_cls is51, ckc_s, x_stands h1.1 is51 hv ht hj hf, bnd_s]
    simp only [jn_s, nI_1]
    by_cases e : sIs v j f = 2
    · rw [if_pos (by rw [e]; rfl), if_pos e]
      show s (nI x + nI 1) _ _ = _
      rw [nI_add]
    · rw [if_neg (fun (q : nI (sIs v j f) = 2) => e ((nI_eq (b := 2) (by omega) (by decide)).mp q)), if_neg e]
      show s (nI x + nI 0) _ _ = _
      rw [nI_add]
  · intro s x _
    show fX0_lost_L47 B (nI f) K s (nI x) (nI (kP (gK g))) (mk B c h0) = _
    unfold fX0_lost_L47
    rw [x0_cls, ckc_s, x_people h1, bnd_s, if_pos (nI_le (Nat.le_refl _) (by omega))]
theorem x_lost (hD : ∃ q, dS D 7 = va_rf q) (h : cG B g c h0) (a : Int32) : ∃ c', fX0_lost D B a (mk B c h0) = some ((if sPn (kF (gK g)) a = true then spLost (gK g) (gW g) a.toNatClampNeg else -1), mk B c' h0) ∧ cG B g c' h0 := by
  have h1 := h.2.1
  have h8 := h1.1.2.1
  have hF := h1.1.1
  have now := h.2.2.1
  have fin : Ok (fX0_lost D B a (mk B c h0)) (fun r => r.1 = (if sPn (kF (gK g)) a = true then spLost (gK g) (gW g) a.toNatClampNeg else -1) ∧ ∃ c', r.2 = mk B c' h0 ∧ cG B g c' h0) := by
    unfold fX0_lost
    rw [x0_cls, ckc_s, x_isFact h1, bnd_s]
    cases e : sPn (kF (gK g)) a with
    | false => exact Ok.of ⟨rfl, c, rfl, h⟩
    | true =>
    obtain ⟨f, hf, rfl⟩ := sPn_nat e hF
    rw [if_neg (by decide), if_pos rfl, nI_c (by omega), x0_cls, ckc_s, x_people h1, bnd_s]
    unfold spLost
    by_cases c0 : kP (gK g) = 0
    · rw [if_pos (by rw [c0]; rfl), if_pos c0]
      exact Ok.of ⟨rfl, c, rfl, h⟩
    obtain ⟨c1, q1, q2⟩ := x_start h (cFr.rf 51 c) h.2.2.2.1
    rw [if_neg (nI_ne0 (by omega) (by omega)), if_neg c0, x0_F10, vA_s, x0_F9, vA_s, st_cls is51, ckc_s, q1, bnd_s]
    refine x_till (c0 := c) (fun v => decide (sWrM v (kP (gK g)) f = kP (gK g))) (F := fX0_lost_L31 D B (nI f)) hD h q2 (KY := fun j c => some (nI j, mk B c h0)) (KN := fun j c => some (-1, mk B c h0)) (fun s j v c hj hx => ?_) (fun j v c hj hx hs => ?_) (fun j v c hx hs => ?_)
    · have nw := hx.now now
      have hle := sWrM_le v (kP (gK g)) f
      have xc := hx.sc h1
      unfold fX0_lost_L31
      rw [x0_cls, ckc_s, x_isAhead nw.1 nw.2.1 _ 0 40 (by decide) (by decide), bnd_s, show (0 : Int32).toInt = 0 from by decide, show (40 : Int32).toInt = 40 from by decide]
      cases sAh (gW g) (nI j) 0 40 with
      | false => rfl
      | true =>
        rw [if_neg (by decide), if_pos rfl, jn_s, x_lostN (Q := fun _ => True) xc hx.2.1 hx.2.2.1 (by omega)]
        rw [x0_cls, ckc_s, x_people xc, bnd_s]
        by_cases ee : sWrM v (kP (gK g)) f = kP (gK g)
        · rw [if_pos (by rw [ee]), if_pos (decide_eq_true ee)]
        · rw [if_neg (fun q => ee ((nI_eq (by omega) (by omega)).mp q)), if_neg (by simpa using ee), x0_F10, vA_s, st_cls is51, ckc_s]
    · rw [hs]
      exact Ok.of ⟨rfl, c, rfl, hx.all h⟩
    · rw [hs]
      exact Ok.of ⟨rfl, c, rfl, hx.all h⟩
  obtain ⟨⟨r, h'⟩, e, q1, c', q2, q3⟩ := fin
  have q2 : h' = mk B c' h0 := q2
  exact ⟨c', by rw [e, q2]; cases q1; rfl, q3⟩
end AH
