/-! PART 44: plain: the component: holds -/
set_option maxRecDepth 100000
theorem sRun_congr {al : Nat → Bool} {P P' : Nat → Int64} {B B' : Int64 → Int64} (h12 : al 12 = false) (hP : ∀ j, al j = true → P j = P' j) : ∀ (c : List Int32) (st : List Int64) (d : Nat), cDep al c st.length = some d → sRun P B c st = sRun P' B' c st
  | [], st, d, _ => rfl
  | a :: c, st, d, hd => by
    have ih := fun st1 (hd : cDep al c st1.length = some d) => sRun_congr (B := B) (B' := B') h12 hP c st1 d hd
    have step : sStep P B a st = sStep P' B' a st ∧ ∀ st1, sStep P B a st = some st1 → cDep al c st1.length = some d := by
      unfold cDep at hd
      unfold sStep
      by_cases c1 : a < 1000
      · rw [if_pos c1] at hd
        rw [if_pos c1, if_pos c1]
        by_cases c2 : a < 60
        · rw [if_pos c2] at hd
          rw [if_pos c2, if_pos c2]
          by_cases c3 : a < 40
          · rw [if_pos c3] at hd
            rw [if_pos c3, if_pos c3]
            by_cases c4 : a = 13
            · rw [if_pos c4] at hd
              rw [if_pos c4]
              refine ⟨rfl, fun st1 e => ?_⟩
              cases e
              exact hd
            · rw [if_neg c4] at hd
              rw [if_neg c4]
              by_cases c5 : a = 12
              · rw [if_pos c5] at hd
                rw [if_pos c5]
                refine ⟨rfl, fun st1 e => ?_⟩
                cases st with
                | nil => cases e
                | cons x r =>
                  cases e
                  by_cases c6 : 1 ≤ (x :: r).length
                  · rw [if_pos c6] at hd
                    exact hd
                  · rw [if_neg c6] at hd
                    cases hd
              · rw [if_neg c5] at hd
                rw [if_neg c5]
                refine ⟨rfl, fun st1 e => ?_⟩
                by_cases c7 : 1 ≤ a ∧ a ≤ 11
                · rw [if_pos c7] at hd
                  by_cases c6 : 2 ≤ st.length
                  · rw [if_pos c6] at hd
                    match st, e, hd with
                    | y :: x :: r, e, hd =>
                      cases e
                      exact hd
                  · rw [if_neg c6] at hd
                    cases hd
                · rw [if_neg c7] at hd
                  cases hd
          · rw [if_neg c3] at hd
            rw [if_neg c3, if_neg c3]
            by_cases c4 : al (a - 40).toNatClampNeg = true
            · rw [if_pos c4] at hd
              rw [hP _ c4]
              refine ⟨rfl, fun st1 e => ?_⟩
              cases e
              exact hd
            · rw [if_neg c4] at hd
              cases hd
        · rw [if_neg c2] at hd
          rw [if_neg (by rw [h12]; simp)] at hd
          cases hd
      · rw [if_neg c1] at hd
        rw [if_neg c1, if_neg c1]
        refine ⟨rfl, fun st1 e => ?_⟩
        cases e
        by_cases c2 : a ≤ 10999
        · rw [if_pos c2] at hd
          exact hd
        · rw [if_neg c2] at hd
          cases hd
    show (match sStep P B a st with
      | some st1 => sRun P B c st1
      | none => none) = (match sStep P' B' a st with
      | some st1 => sRun P' B' c st1
      | none => none)
    rw [← step.1]
    cases e : sStep P B a st with
    | none => rfl
    | some st1 => exact ih st1 (step.2 st1 e)
theorem al_12 {i : Nat} (_ : i < 3) : alOf (kdOf i) 12 = false := by
  unfold kdOf
  split <;> decide
/-- only the moment has changed -/
def cMo (c c' : CZ) : Prop := c'.1 = c.1 ∧ c'.2.2 = c.2.2 ∧ ∀ o, o ≠ 10 → c'.2.1 o = c.2.1 o
theorem cMo.rf (c : CZ) : cMo c c := ⟨rfl, rfl, fun _ _ => rfl⟩
theorem cMo.tr {a b c : CZ} (h : cMo a b) (g : cMo b c) : cMo a c := ⟨g.1.trans h.1, g.2.1.trans h.2.1, fun o ho => (g.2.2 o ho).trans (h.2.2 o ho)⟩
theorem cMo.x (c : CZ) (i : Nat) (v : Int64) : cMo c (xL c 10 i v) := ⟨rfl, rfl, fun o ho => va_up_ne _ _ ho⟩
theorem cMo.i {c c' : CZ} (h : cMo c c') (o i : Nat) : cI c' o i = cI c o i := by unfold cI; rw [h.1]
theorem cMo.q {c c' : CZ} (h : cMo c c') (o i : Nat) : cQ c' o i = cQ c o i := by unfold cQ; rw [h.2.1]
theorem cMo.sc {B : Nat} {k : SK} {nm : Nat → Nat → List Nat} {c c' : CZ} {h0 : PH} (h : cMo c c') (g : cSc B k nm c h0) : cSc B k nm c' h0 := g.of (h.q 0 0)
theorem cMo.st {k : SK} {w : SW} {s : Nat} {c c' : CZ} (h : cMo c c') (g : cSt k w s c) : cSt k w s c' := by
  unfold cSt
  simp only [h.i]
  exact g
theorem cMo.rw' {B : Nat} {l : List (Nat × Nat × Nat)} {s : Nat} {c c' : CZ} (h : cMo c c') (g : cRw B l s c) : cRw B l s c' := by
  unfold cRw
  simp only [h.i, h.q]
  exact g
theorem sPart_0 {k : SK} {w : SW} {p f : Nat} : sPart k w false p f 0 = (nI (kCa k p)).toInt64 := by
  unfold sPart
  rw [if_pos rfl]
theorem sPart_1 {k : SK} {w : SW} {p f : Nat} : sPart k w false p f 1 = (nI (pop (wR w p))).toInt64 := by
  unfold sPart
  rw [if_neg (by decide), if_pos rfl, if_neg (by decide)]
theorem sPart_2 {k : SK} {w : SW} {p f : Nat} : sPart k w false p f 2 = (nI (pop (wW w p))).toInt64 := by
  unfold sPart
  rw [if_neg (by decide), if_neg (by decide), if_pos rfl, if_neg (by decide)]
theorem sPart_3 {k : SK} {w : SW} {p f : Nat} : sPart k w false p f 3 = (nI (wY w)).toInt64 := by
  unfold sPart
  rw [if_neg (by decide), if_neg (by decide), if_neg (by decide), if_pos rfl]
theorem sPart_4 {k : SK} {w : SW} {p f : Nat} : sPart k w false p f 4 = (nI (kWo k f)).toInt64 := by
  unfold sPart
  rw [if_neg (by decide), if_neg (by decide), if_neg (by decide), if_neg (by decide), if_pos rfl]
theorem sPart_5 {k : SK} {w : SW} {p f : Nat} : sPart k w false p f 5 = (nI (pop (sPup w (kP k) (wM w p)))).toInt64 := by
  unfold sPart
  rw [if_neg (by decide), if_neg (by decide), if_neg (by decide), if_neg (by decide), if_neg (by decide), if_pos rfl]
theorem sPart_6 {k : SK} {w : SW} {p f : Nat} : sPart k w false p f 6 = (nI (kCa k (wM w p - 1))).toInt64 := by
  unfold sPart
  rw [if_neg (by decide), if_neg (by decide), if_neg (by decide), if_neg (by decide), if_neg (by decide), if_neg (by decide), if_pos rfl]
theorem sPart_7 {k : SK} {w : SW} {p f : Nat} : sPart k w false p f 7 = (nI (wL' w p)).toInt64 := by
  unfold sPart
  rw [if_neg (by decide), if_neg (by decide), if_neg (by decide), if_neg (by decide), if_neg (by decide), if_neg (by decide), if_neg (by decide), if_pos rfl]
theorem sPart_8 {k : SK} {w : SW} {p f : Nat} : sPart k w false p f 8 = (sMk k w p).toInt64 := by
  unfold sPart
  rw [if_neg (by decide), if_neg (by decide), if_neg (by decide), if_neg (by decide), if_neg (by decide), if_neg (by decide), if_neg (by decide), if_neg (by decide), if_pos rfl]
section HO
variable {D : PD} {B : Nat} {k : SK} {nm : Nat → Nat → List Nat} {c : CZ} {h0 : PH} {w : SW} {s : Nat}
/-- 'by' of a number -/
def lkV (k : SK) (c : CZ) (x : Int64) : Int64 := if x < 0 then 0 else if (nI (kP k)).toInt64 ≤ x then 0 else if ((cI c 16 (Int64.toInt32 x).toNatClampNeg >>> (cI c 0 18 &&& 31)) &&& 1) = 1 then 1 else 0
theorem x_looked (hx : cSc B k nm c h0) (x : Int64) : fX0_looked B 0 x (mk B c h0) = some (lkV k c x, mk B c h0) := by
  have h8 := hx.1.2.1
  unfold fX0_looked lkV
  rw [jn_s, if_pos rfl]
  by_cases c0 : x < 0
  · rw [if_pos c0, if_pos c0]
  rw [if_neg c0, if_neg c0, x0_cls, ckc_s, x_people hx, bnd_s]
  by_cases c1 : (nI (kP k)).toInt64 ≤ x
  · rw [if_pos c1, if_pos c1]
  rw [if_neg c1, if_neg c1]
  have q0 := mt Int64.lt_iff_toInt_lt.mpr c0
  have q1 := mt Int64.le_iff_toInt_le.mpr c1
  rw [Int32.toInt_toInt64, nI_toInt (by omega)] at q1
  have e0 : (0 : Int64).toInt = 0 := by decide
  have ex : x = lN x.toInt.toNat := by
    apply Int64.toInt_inj.mp
    rw [lN_toInt (by omega)]
    omega
  have hi : Int64.toInt32 x = nI x.toInt.toNat := by
    rw [ex, lN_i, lN_toInt (by omega)]
    simp
  rw [x0_F9, vA_s, x0_F18, vI_s]
  have is14 : isS 14 := Or.inl rfl
  rw [st_cls is14, ckc_s, hi]
  unfold fX5_stands fX0_has
  have l2 : pLd (mk B c h0) (B + 14 + 2) 0 (nI x.toInt.toNat) = some (cI c 16 x.toInt.toNat) := by
    rw [Nat.add_assoc, (st_k2 is14).ld c h0 (inb_nI (show x.toInt.toNat < 8 by omega) (by decide)), nI_c (by omega)]
  have l3 : pLd (mk B c h0) (B + 14 + 3) 0 (nI x.toInt.toNat) = some (cI c 17 x.toInt.toNat) := by
    rw [Nat.add_assoc, (st_k3 is14).ld c h0 (inb_nI (show x.toInt.toNat < 8 by omega) (by decide)), nI_c (by omega)]
  rw [st_F5 is14, vA_s, l2, ob_s, nI_c (by omega)]
  generalize cI c 0 18 = y
  generalize cI c 16 x.toInt.toNat = r
  by_cases c2 : (r >>> (y &&& 31)) &&& 1 = 1
  · rw [if_pos c2, bnd_s, if_neg (by decide), bnd_s, if_pos rfl, if_pos c2]
  · rw [if_neg c2, bnd_s, if_pos (by decide), st_F6 is14, vA_s, l3, ob_s, if_neg c2]
    generalize cI c 17 x.toInt.toNat = r2
    by_cases c3 : (r2 >>> (y &&& 31)) &&& 1 = 1
    · rw [if_pos c3, bnd_s, if_neg (by decide), bnd_s, if_neg (by decide)]
    · rw [if_neg c3, bnd_s, if_pos (by decide), bnd_s, if_neg (by decide)]
theorem x_eval (hD : ∃ q, dS D 7 = va_rf q) (hx : cSc B k nm c h0) {i p f t : Nat} {code : List Int32} (hi : i < 3) (hV : ∀ j, j < 12 → alOf (kdOf i) j = true → sClip (cL c 10 j) = sPart k w false p f j) (hc : kTe k i = some code) (ht : tT (outB B) B 64 h0 t code) : vHolds D 64 t (B + 9) (mk B c h0) = some (sHo k w i p f, mk B c h0) := by
  have hmo : moP (mk B c h0) (B + 9) (cL c 10) := ⟨B + 10, mo_F B c h0, fun j hj => by rw [k_mom.ld c h0 (inb_nI (show j < 12 from hj) (by decide)), nI_c (by omega)]⟩
  obtain ⟨v, e1, e2⟩ := tT_at hD hmo (x_looked hx) (x0_cls c h0) 64 (ht.of (fun a ha => ⟨ha, mk_out ha c h0⟩)) 64 (Nat.le_refl _)
  rw [e1]
  have hd := hx.1.2.2.2.2.2 i code hi hc
  have hal : ∀ j, alOf (kdOf i) j = true → sClip (cL c 10 j) = sPart k w false p f j := fun j hj => by
    refine hV j ?_ hj
    unfold alOf kdOf at hj
    by_cases e : i = 2
    · rw [if_pos e, if_neg (by decide), if_pos rfl] at hj
      have := of_decide_eq_true hj
      omega
    · rw [if_neg e, if_neg (by decide), if_neg (by decide)] at hj
      have := of_decide_eq_true hj
      omega
  have hr := sRun_congr (B := fun x => sClip (lkV k c x)) (B' := id) (al_12 hi) hal code [] 1 hd
  rw [e2 []] at hr
  unfold sHo
  rw [hc]
  show some (v, mk B c h0) = some (decide (sRun (fun j => sPart k w false p f j) id code [] = some [1]), mk B c h0)
  have hr : some [b64 v] = sRun (fun j => sPart k w false p f j) id code [] := hr
  rw [← hr]
  cases v <;> rfl
theorem mk_bd {n : Nat} (h : n ≤ 1000000) : bd (nI n).toInt64 := by
  unfold bd
  rw [Int32.toInt_toInt64, nI_toInt (by omega)]
  omega
theorem sMk_in (hk : kOk k) (w : SW) (p : Nat) : -72 ≤ (sMk k w p).toInt ∧ (sMk k w p).toInt ≤ 72 := by
  have h8 := hk.1
  have := itN_inv (σ := Int32) (Inv := fun n s => -(9 * n : Int) ≤ s.toInt ∧ s.toInt ≤ 9 * n) (m := kF k) (st := fun f s => s + if (wR w p).testBit f = true then nI (kWo k f) else if (wW w p).testBit f = true then - nI (kWo k f) else 0) (fun f s hf hs => ?_) (kF k) 0 0 (by omega) ⟨by decide, by decide⟩
  · unfold sMk
    omega
  · have hwo := hk.2.2.1 f hf
    have add : ∀ x : Int32, -9 ≤ x.toInt → x.toInt ≤ 9 → (s + x).toInt = s.toInt + x.toInt := fun x h1 h2 => by
      rw [Int32.toInt_add]
      apply Int.bmod_eq_of_le <;> omega
    have e1 : (nI (kWo k f)).toInt = kWo k f := nI_toInt (by omega)
    have e2 : (- nI (kWo k f)).toInt = -(kWo k f : Int) := by
      rw [Int32.toInt_neg, e1]
      apply Int.bmod_eq_of_le <;> omega
    have e0 : (0 : Int32).toInt = 0 := by decide
    show -(9 * ((f + 1 : Nat) : Int)) ≤ (s + _).toInt ∧ (s + _).toInt ≤ 9 * ((f + 1 : Nat) : Int)
    split
    · rw [add _ (by omega) (by omega), e1]
      omega
    · split
      · rw [add _ (by omega) (by omega), e2]
        omega
      · rw [add _ (by omega) (by omega), e0]
        omega
theorem sMk_bd (hk : kOk k) (w : SW) (p : Nat) : bd (sMk k w p).toInt64 := by
  have := sMk_in hk w p
  unfold bd
  rw [Int32.toInt_toInt64]
  omega
theorem x_holds_f (hD : ∃ q, dS D 7 = va_rf q) (hx : cSc B k nm c h0) (hs : isS s) (hw : wOk k w) (ht : cSt k w s c) {i p f t : Nat} {code : List Int32} (hi : i < 2) (hp : p < kP k) (hf : f < kF k) (hm : wM w p ≠ 0) (hc : kTe k i = some code) (htt : tT (outB B) B 64 h0 t code) : ∃ c', fX5_holds D (B + s) t (nI p) (nI f) (mk B c h0) = some (sHo k w i p f, mk B c' h0) ∧ cMo c c' := by
  have h8 := hx.1.2.1
  have hF := hx.1.1
  obtain ⟨b1, b2, b3, b4, b5, b6⟩ := hw.2.2 p hp
  have r8 := hw.r8 hx.1 hp
  have w8 := hw.w8 hx.1 hp
  have i0 : inb (0 : Int32) 12 = true := by decide
  have i1 : inb (1 : Int32) 12 = true := by decide
  have i2 : inb (2 : Int32) 12 = true := by decide
  have i3 : inb (3 : Int32) 12 = true := by decide
  have i4 : inb (4 : Int32) 12 = true := by decide
  have i5 : inb (5 : Int32) 12 = true := by decide
  have i6 : inb (6 : Int32) 12 = true := by decide
  unfold fX5_holds
  rw [st_F11 hs, vA_s, x0_F6, vA_s, mo_F, vA_s, vA_s, x0_cls, ckc_s, x_calmOf hx hp, bnd_s, k_mom.st c h0 i0, bnv_s]
  have d1 : bd (nI (kCa k p)).toInt64 := mk_bd (by have := hx.1; have := hx.1.2.2.2.1 p hp; omega)
  generalize hv1 : (nI (kCa k p)).toInt64 = v1 at d1 ⊢
  generalize hz1 : xL c 10 (Int32.toNatClampNeg 0) v1 = c1
  have m1 : cMo c c1 := by rw [← hz1]; exact cMo.x _ _ _
  rw [st_F11 hs, vA_s, x0_F6, vA_s, mo_F, vA_s, st_F5 hs, vA_s, st_r hs (m1.st ht) hp h8, ob_s, bitCount_v r8, bnd_s, k_mom.st c1 h0 i1, bnv_s]
  have d2 : bd (nI (pop (wR w p))).toInt64 := mk_bd (by have := hx.1; have := pop_le _ r8; omega)
  generalize hv2 : (nI (pop (wR w p))).toInt64 = v2 at d2 ⊢
  generalize hz2 : xL c1 10 (Int32.toNatClampNeg 1) v2 = c2
  have m2 : cMo c c2 := m1.tr (by rw [← hz2]; exact cMo.x _ _ _)
  rw [st_F11 hs, vA_s, x0_F6, vA_s, mo_F, vA_s, st_F6 hs, vA_s, st_w hs (m2.st ht) hp h8, ob_s, bitCount_v w8, bnd_s, k_mom.st c2 h0 i2, bnv_s]
  have d3 : bd (nI (pop (wW w p))).toInt64 := mk_bd (by have := hx.1; have := pop_le _ w8; omega)
  generalize hv3 : (nI (pop (wW w p))).toInt64 = v3 at d3 ⊢
  generalize hz3 : xL c2 10 (Int32.toNatClampNeg 2) v3 = c3
  have m3 : cMo c c3 := m2.tr (by rw [← hz3]; exact cMo.x _ _ _)
  rw [st_F11 hs, vA_s, x0_F6, vA_s, mo_F, vA_s, st_F0 hs, vI_s, (m3.st ht).1, k_mom.st c3 h0 i3, bnv_s]
  have d4 : bd (nI (wY w)).toInt64 := mk_bd (by have := hx.1; have := hw.2.1; omega)
  generalize hv4 : (nI (wY w)).toInt64 = v4 at d4 ⊢
  generalize hz4 : xL c3 10 (Int32.toNatClampNeg 3) v4 = c4
  have m4 : cMo c c4 := m3.tr (by rw [← hz4]; exact cMo.x _ _ _)
  have hne : ¬ nI f = -1 := fun q => by
    have : (nI f).toInt = -1 := by rw [q]; decide
    rw [nI_toInt (by omega)] at this
    omega
  rw [jn_s, if_neg hne, st_F11 hs, vA_s, x0_F6, vA_s, mo_F, vA_s, vA_s, x0_cls, ckc_s, x_worthOf (m4.sc hx) hf, bnd_s, k_mom.st c4 h0 i4, bnv_s]
  have d5 : bd (nI (kWo k f)).toInt64 := mk_bd (by have := hx.1; have := hx.1.2.2.1 f hf; omega)
  generalize hv5 : (nI (kWo k f)).toInt64 = v5 at d5 ⊢
  generalize hz5 : xL c4 10 (Int32.toNatClampNeg 4) v5 = c5
  have m5 : cMo c c5 := m4.tr (by rw [← hz5]; exact cMo.x _ _ _)
  have pl := sPup_lt w (kP k) (wM w p) h8
  rw [st_F11 hs, vA_s, x0_F6, vA_s, mo_F, vA_s, st_F4 hs, vA_s, st_m hs (m5.st ht) hp h8, ob_s, st_cls hs, ckc_s, x_pupils (m5.sc hx) hs hw (m5.st ht) (by omega), bnd_s, bitCount_v pl, bnd_s, k_mom.st c5 h0 i5, bnv_s]
  have d6 : bd (nI (pop (sPup w (kP k) (wM w p)))).toInt64 := mk_bd (by have := hx.1; have := pop_le _ pl; omega)
  generalize hv6 : (nI (pop (sPup w (kP k) (wM w p)))).toInt64 = v6 at d6 ⊢
  generalize hz6 : xL c5 10 (Int32.toNatClampNeg 5) v6 = c6
  have m6 : cMo c c6 := m5.tr (by rw [← hz6]; exact cMo.x _ _ _)
  rw [st_F11 hs, vA_s, x0_F6, vA_s, mo_F, vA_s, vA_s, st_F4 hs, vA_s, st_m hs (m6.st ht) hp h8, ob_s, x0_cls, ckc_s, nI_m1 (by omega), x_calmOf (m6.sc hx) (by omega), bnd_s, k_mom.st c6 h0 i6, bnv_s]
  have d7 : bd (nI (kCa k (wM w p - 1))).toInt64 := mk_bd (by have := hx.1; have := hx.1.2.2.2.1 (wM w p - 1) (by omega); omega)
  generalize hv7 : (nI (kCa k (wM w p - 1))).toInt64 = v7 at d7 ⊢
  generalize hz7 : xL c6 10 (Int32.toNatClampNeg 6) v7 = c7
  have m7 : cMo c c7 := m6.tr (by rw [← hz7]; exact cMo.x _ _ _)
  dsimp only
  rw [st_F11 hs, vA_s, x0_F6, vA_s]
  have q1 := pop_le _ r8
  have q2 := pop_le _ w8
  have q3 := pop_le _ pl
  have q4 := hx.1.2.2.2.1 p hp
  have q5 := hx.1.2.2.2.1 (wM w p - 1) (by omega)
  have q6 := hx.1.2.2.1 f hf
  have q7 := hw.2.1
  have t0 : (Int32.toNatClampNeg 0) = 0 := by decide
  have t1 : (Int32.toNatClampNeg 1) = 1 := by decide
  have t2 : (Int32.toNatClampNeg 2) = 2 := by decide
  have t3 : (Int32.toNatClampNeg 3) = 3 := by decide
  have t4 : (Int32.toNatClampNeg 4) = 4 := by decide
  have t5 : (Int32.toNatClampNeg 5) = 5 := by decide
  have t6 : (Int32.toNatClampNeg 6) = 6 := by decide
  rw [x_eval (w := w) (p := p) (f := f) hD (m7.sc hx) (show i < 3 by omega) (fun j hj hal => ?_) hc htt, bnd_s]
  · exact ⟨c7, rfl, m7⟩
  · have hj7 : j < 7 := by
      unfold alOf kdOf at hal
      rw [if_neg (show ¬ i = 2 by omega)] at hal
      rw [if_neg (by decide), if_neg (by decide)] at hal
      exact of_decide_eq_true hal
    rcases (show j = 0 ∨ j = 1 ∨ j = 2 ∨ j = 3 ∨ j = 4 ∨ j = 5 ∨ j = 6 by omega) with rfl | rfl | rfl | rfl | rfl | rfl | rfl
    · have e : cL c7 10 0 = v1 := by
        rw [← hz7, ← hz6, ← hz5, ← hz4, ← hz3, ← hz2, ← hz1, t0, t1, t2, t3, t4, t5, t6]
        simp [cL_x]
      rw [e, sClip_id d1, sPart_0, hv1]
    · have e : cL c7 10 1 = v2 := by
        rw [← hz7, ← hz6, ← hz5, ← hz4, ← hz3, ← hz2, ← hz1, t0, t1, t2, t3, t4, t5, t6]
        simp [cL_x]
      rw [e, sClip_id d2, sPart_1, hv2]
    · have e : cL c7 10 2 = v3 := by
        rw [← hz7, ← hz6, ← hz5, ← hz4, ← hz3, ← hz2, ← hz1, t0, t1, t2, t3, t4, t5, t6]
        simp [cL_x]
      rw [e, sClip_id d3, sPart_2, hv3]
    · have e : cL c7 10 3 = v4 := by
        rw [← hz7, ← hz6, ← hz5, ← hz4, ← hz3, ← hz2, ← hz1, t0, t1, t2, t3, t4, t5, t6]
        simp [cL_x]
      rw [e, sClip_id d4, sPart_3, hv4]
    · have e : cL c7 10 4 = v5 := by
        rw [← hz7, ← hz6, ← hz5, ← hz4, ← hz3, ← hz2, ← hz1, t0, t1, t2, t3, t4, t5, t6]
        simp [cL_x]
      rw [e, sClip_id d5, sPart_4, hv5]
    · have e : cL c7 10 5 = v6 := by
        rw [← hz7, ← hz6, ← hz5, ← hz4, ← hz3, ← hz2, ← hz1, t0, t1, t2, t3, t4, t5, t6]
        simp [cL_x]
      rw [e, sClip_id d6, sPart_5, hv6]
    · have e : cL c7 10 6 = v7 := by
        rw [← hz7, ← hz6, ← hz5, ← hz4, ← hz3, ← hz2, ← hz1, t0, t1, t2, t3, t4, t5, t6]
        simp [cL_x]
      rw [e, sClip_id d7, sPart_6, hv7]
theorem x_holds_n (hD : ∃ q, dS D 7 = va_rf q) (hx : cSc B k nm c h0) (hs : isS s) (hw : wOk k w) (ht : cSt k w s c) {p t : Nat} {code : List Int32} (hp : p < kP k) (hc : kTe k 2 = some code) (htt : tT (outB B) B 64 h0 t code) : ∃ c', fX5_holds D (B + s) t (nI p) (-1) (mk B c h0) = some (sHo k w 2 p 0, mk B c' h0) ∧ cMo c c' := by
  have h8 := hx.1.2.1
  have hF := hx.1.1
  obtain ⟨b1, b2, b3, b4, b5, b6⟩ := hw.2.2 p hp
  have r8 := hw.r8 hx.1 hp
  have w8 := hw.w8 hx.1 hp
  have i0 : inb (0 : Int32) 12 = true := by decide
  have i1 : inb (1 : Int32) 12 = true := by decide
  have i2 : inb (2 : Int32) 12 = true := by decide
  have i3 : inb (3 : Int32) 12 = true := by decide
  have i7 : inb (7 : Int32) 12 = true := by decide
  have i8 : inb (8 : Int32) 12 = true := by decide
  unfold fX5_holds
  rw [st_F11 hs, vA_s, x0_F6, vA_s, mo_F, vA_s, vA_s, x0_cls, ckc_s, x_calmOf hx hp, bnd_s, k_mom.st c h0 i0, bnv_s]
  have d1 : bd (nI (kCa k p)).toInt64 := mk_bd (by have := hx.1; have := hx.1.2.2.2.1 p hp; omega)
  generalize hv1 : (nI (kCa k p)).toInt64 = v1 at d1 ⊢
  generalize hz1 : xL c 10 (Int32.toNatClampNeg 0) v1 = c1
  have m1 : cMo c c1 := by rw [← hz1]; exact cMo.x _ _ _
  rw [st_F11 hs, vA_s, x0_F6, vA_s, mo_F, vA_s, st_F5 hs, vA_s, st_r hs (m1.st ht) hp h8, ob_s, bitCount_v r8, bnd_s, k_mom.st c1 h0 i1, bnv_s]
  have d2 : bd (nI (pop (wR w p))).toInt64 := mk_bd (by have := hx.1; have := pop_le _ r8; omega)
  generalize hv2 : (nI (pop (wR w p))).toInt64 = v2 at d2 ⊢
  generalize hz2 : xL c1 10 (Int32.toNatClampNeg 1) v2 = c2
  have m2 : cMo c c2 := m1.tr (by rw [← hz2]; exact cMo.x _ _ _)
  rw [st_F11 hs, vA_s, x0_F6, vA_s, mo_F, vA_s, st_F6 hs, vA_s, st_w hs (m2.st ht) hp h8, ob_s, bitCount_v w8, bnd_s, k_mom.st c2 h0 i2, bnv_s]
  have d3 : bd (nI (pop (wW w p))).toInt64 := mk_bd (by have := hx.1; have := pop_le _ w8; omega)
  generalize hv3 : (nI (pop (wW w p))).toInt64 = v3 at d3 ⊢
  generalize hz3 : xL c2 10 (Int32.toNatClampNeg 2) v3 = c3
  have m3 : cMo c c3 := m2.tr (by rw [← hz3]; exact cMo.x _ _ _)
  rw [st_F11 hs, vA_s, x0_F6, vA_s, mo_F, vA_s, st_F0 hs, vI_s, (m3.st ht).1, k_mom.st c3 h0 i3, bnv_s]
  have d4 : bd (nI (wY w)).toInt64 := mk_bd (by have := hx.1; have := hw.2.1; omega)
  generalize hv4 : (nI (wY w)).toInt64 = v4 at d4 ⊢
  generalize hz4 : xL c3 10 (Int32.toNatClampNeg 3) v4 = c4
  have m4 : cMo c c4 := m3.tr (by rw [← hz4]; exact cMo.x _ _ _)
  rw [jn_s, if_pos rfl, st_F11 hs, vA_s, x0_F6, vA_s, mo_F, vA_s, st_F7 hs, vA_s, st_l hs (m4.st ht) hp h8, ob_s, k_mom.st c4 h0 i7, bnv_s]
  have d5 : bd (nI (wL' w p)).toInt64 := mk_bd (by have := hx.1;  omega)
  generalize hv5 : (nI (wL' w p)).toInt64 = v5 at d5 ⊢
  generalize hz5 : xL c4 10 (Int32.toNatClampNeg 7) v5 = c5
  have m5 : cMo c c5 := m4.tr (by rw [← hz5]; exact cMo.x _ _ _)
  rw [st_F11 hs, vA_s, x0_F6, vA_s, mo_F, vA_s, st_cls hs, ckc_s, x_marks (m5.sc hx) hs hw (m5.st ht) hp, bnd_s, k_mom.st c5 h0 i8, bnv_s]
  have mb := sMk_bd hx.1 w p
  generalize hmk : (sMk k w p).toInt64 = mkv at mb ⊢
  generalize hz6 : xL c5 10 (Int32.toNatClampNeg 8) mkv = c6
  have m6 : cMo c c6 := m5.tr (by rw [← hz6]; exact cMo.x _ _ _)
  dsimp only
  rw [st_F11 hs, vA_s, x0_F6, vA_s]
  have q1 := pop_le _ r8
  have q2 := pop_le _ w8
  have q4 := hx.1.2.2.2.1 p hp
  have q7 := hw.2.1
  have t0 : (Int32.toNatClampNeg 0) = 0 := by decide
  have t1 : (Int32.toNatClampNeg 1) = 1 := by decide
  have t2 : (Int32.toNatClampNeg 2) = 2 := by decide
  have t3 : (Int32.toNatClampNeg 3) = 3 := by decide
  have t7 : (Int32.toNatClampNeg 7) = 7 := by decide
  have t8 : (Int32.toNatClampNeg 8) = 8 := by decide
  rw [x_eval (w := w) (p := p) (f := 0) hD (m6.sc hx) (show 2 < 3 by omega) (fun j hj hal => ?_) hc htt, bnd_s]
  · exact ⟨c6, rfl, m6⟩
  · have hj7 : j < 4 ∨ j = 7 ∨ j = 8 := by
      unfold alOf kdOf at hal
      rw [if_pos rfl, if_neg (by decide), if_pos rfl] at hal
      exact of_decide_eq_true hal
    rcases (show j = 0 ∨ j = 1 ∨ j = 2 ∨ j = 3 ∨ j = 7 ∨ j = 8 by omega) with rfl | rfl | rfl | rfl | rfl | rfl
    · have e : cL c6 10 0 = v1 := by
        rw [← hz6, ← hz5, ← hz4, ← hz3, ← hz2, ← hz1, t0, t1, t2, t3, t7, t8]
        simp [cL_x]
      rw [e, sClip_id d1, sPart_0, hv1]
    · have e : cL c6 10 1 = v2 := by
        rw [← hz6, ← hz5, ← hz4, ← hz3, ← hz2, ← hz1, t0, t1, t2, t3, t7, t8]
        simp [cL_x]
      rw [e, sClip_id d2, sPart_1, hv2]
    · have e : cL c6 10 2 = v3 := by
        rw [← hz6, ← hz5, ← hz4, ← hz3, ← hz2, ← hz1, t0, t1, t2, t3, t7, t8]
        simp [cL_x]
      rw [e, sClip_id d3, sPart_2, hv3]
    · have e : cL c6 10 3 = v4 := by
        rw [← hz6, ← hz5, ← hz4, ← hz3, ← hz2, ← hz1, t0, t1, t2, t3, t7, t8]
        simp [cL_x]
      rw [e, sClip_id d4, sPart_3, hv4]
    · have e : cL c6 10 7 = v5 := by
        rw [← hz6, ← hz5, ← hz4, ← hz3, ← hz2, ← hz1, t0, t1, t2, t3, t7, t8]
        simp [cL_x]
      rw [e, sClip_id d5, sPart_7, hv5]
    · have e : cL c6 10 8 = mkv := by
        rw [← hz6, ← hz5, ← hz4, ← hz3, ← hz2, ← hz1, t0, t1, t2, t3, t7, t8]
        simp [cL_x]
      rw [e, sClip_id mb, sPart_8, hmk]
end HO
