/-! PART 51: plain: the component that holds the whole state; calls that only ask -/
set_option maxRecDepth 100000
/-- a byte as it lies in a byte array -/
def sb (b : Nat) : Int32 := if b < 128 then nI b else nI b - 256
theorem sb_255 : ∀ b, b < 256 → sb b &&& 255 = nI b := by decide +kernel
theorem cPi.fr {B s t : Nat} {c c' : CZ} (hs : isS s) (ht : isS t) (hne : s ≠ t) (f : cFr t c c') (h : cPi B s c) : cPi B s c' := by
  have ap := isS_apart hs ht hne
  obtain ⟨π, g3, g4, g5⟩ := h
  refine ⟨π, g3, g4, fun i hi => ?_⟩
  rw [← g5 i hi]
  show c'.2.2 (s + 5) i = c.2.2 (s + 5) i
  rw [f.2.2 (s + 5) (by omega)]
theorem cAll.fr {B s t : Nat} {k : SK} {w : SW} {c c' : CZ} (hs : isS s) (ht : isS t) (hne : s ≠ t) (f : cFr t c c') (h : cAll B k w s c) : cAll B k w s c' := by
  have ap := isS_apart hs ht hne
  obtain ⟨hw, hst, r1, r2, π, g3, g4, g5, g6⟩ := h
  have e : ∀ o i, s ≤ o → o < s + 37 → cI c' o i = cI c o i := fun o i h1 h2 => f.1 o i (by omega)
  refine ⟨hw, ⟨by rw [e _ _ (by omega) (by omega)]; exact hst.1, by rw [e _ _ (by omega) (by omega)]; exact hst.2.1, by rw [e _ _ (by omega) (by omega)]; exact hst.2.2.1, fun p hp => ?_⟩, r1, by rw [e _ _ (by omega) (by omega)]; exact r2, π, g3, g4, fun i hi => ?_, fun i hi => ?_⟩
  · rw [e _ _ (by omega) (by omega), e _ _ (by omega) (by omega), e _ _ (by omega) (by omega), e _ _ (by omega) (by omega)]
    exact hst.2.2.2 p hp
  · rw [← g5 i hi]
    show c'.2.2 (s + 5) i = c.2.2 (s + 5) i
    rw [f.2.2 (s + 5) (by omega)]
  · have := g3 i (by omega)
    rw [e _ _ (by omega) (by omega), e _ _ (by omega) (by omega), e _ _ (by omega) (by omega)]
    exact g6 i hi
/-- what was, last first: in the kept States -/
def cUnd (B : Nat) (k : SK) (us : List SW) (c : CZ) : Prop := us.length ≤ 20 ∧ cI c 0 16 = nI us.length ∧ (∀ j, j < 20 → cPi B (100 + 37 * j) c) ∧ ∃ σ : Nat → Nat, (∀ i, i < 20 → σ i < 20) ∧ (∀ i j, i < 20 → j < 20 → σ i = σ j → i = j) ∧ (∀ i, i < 20 → cQ c 99 i = some (B + (100 + 37 * σ i))) ∧ ∀ i, i < us.length → cAll B k (us.getD i default) (100 + 37 * σ (us.length - 1 - i)) c
/-- the component at B, told by c over the heap h0, holds all that -/
def cG (B : Nat) (g : SG) (c : CZ) (h0 : PH) : Prop := sgOk g ∧ cSc B (gK g) (gN g) c h0 ∧ cAll B (gK g) (gW g) 14 c ∧ cPi B 51 c ∧ cUnd B (gK g) (gU g) c ∧
  ((gH g).length ≤ 16 ∧ cI c 0 13 = nI (gH g).length ∧ ∀ i, i < (gH g).length → cI c 88 i = nI ((gH g).getD i (0, 0)).1 ∧ cI c 89 i = nI ((gH g).getD i (0, 0)).2) ∧
  (cI c 0 2 = nI (gT g) ∧ ∀ i, i < gT g → cI c 6 i = sb (gB g i)) ∧ (∀ i, i < 6 → cI c 13 i = gR g i) ∧ (cI c 0 3 = (gFt g).1 ∧ cI c 0 4 = (gFt g).2) ∧ cL c 0 17 = gS g ∧ (cI c 0 20 = nI (gO g).length ∧ ∀ i, i < (gO g).length → cI c 840 i = sb ((gO g).getD i 0)) ∧ ∀ j, j < 8 → cQ c 90 j = some (B + (91 + j))
theorem is14 : isS 14 := Or.inl rfl
theorem is51 : isS 51 := Or.inr (Or.inl rfl)
theorem isk {j : Nat} (h : j < 20) : isS (100 + 37 * j) := Or.inr (Or.inr ⟨j, h, rfl⟩)
theorem cUnd.fr {B t : Nat} {k : SK} {us : List SW} {c c' : CZ} (ht : t = 14 ∨ t = 51) (f : cFr t c c') (h : cUnd B k us c) : cUnd B k us c' := by
  obtain ⟨h1, h2, h3, σ, g1, g2, g3, g4⟩ := h
  have hst : isS t := by rcases ht with rfl | rfl; exact is14; exact is51
  refine ⟨h1, by rw [f.1 0 16 (by omega)]; exact h2, fun j hj => (h3 j hj).fr (isk hj) hst (by omega) f, σ, g1, g2, fun i hi => ?_, fun i hi => (g4 i hi).fr (isk (g1 _ (by omega))) hst (by omega) f⟩
  rw [← g3 i hi]
  show c'.2.2 99 i = c.2.2 99 i
  rw [f.2.2 99 (by omega)]
/-- thought changes nothing -/
theorem cG.fr {B : Nat} {g : SG} {c c' : CZ} {h0 : PH} (h : cG B g c h0) (f : cFr 51 c c') (p : cPi B 51 c') : cG B g c' h0 := by
  obtain ⟨h0', h1, h2, h3, h4, h5, h6, h7, h8, h9, h10, h11⟩ := h
  have e : ∀ o i, o < 51 ∨ 88 ≤ o → cI c' o i = cI c o i := fun o i ho => f.1 o i (by omega)
  refine ⟨h0', f.sc is51 h1, h2.fr is14 is51 (by decide) f, p, h4.fr (Or.inr rfl) f, ⟨h5.1, by rw [e 0 13 (by decide)]; exact h5.2.1, fun i hi => by rw [e 88 i (by decide), e 89 i (by decide)]; exact h5.2.2 i hi⟩, ⟨by rw [e 0 2 (by decide)]; exact h6.1, fun i hi => by rw [e 6 i (by decide)]; exact h6.2 i hi⟩, fun i hi => by rw [e 13 i (by decide)]; exact h7 i hi, ⟨by rw [e 0 3 (by decide)]; exact h8.1, by rw [e 0 4 (by decide)]; exact h8.2⟩, ?_, ⟨by rw [e 0 20 (by decide)]; exact h10.1, fun i hi => by rw [e 840 i (by decide)]; exact h10.2 i hi⟩, fun j hj => ?_⟩
  · show c'.2.1 0 17 = _
    rw [f.2.1 0 (by decide)]
    exact h9
  · rw [← h11 j hj]
    show c'.2.2 90 j = c.2.2 90 j
    rw [f.2.2 90 (by decide)]
theorem cG.mo {B : Nat} {g : SG} {c c' : CZ} {h0 : PH} (h : cG B g c h0) (f : cMo c c') : cG B g c' h0 := h.fr f.fr (by
  obtain ⟨π, g3, g4, g5⟩ := h.2.2.2.1
  exact ⟨π, g3, g4, fun i hi => by rw [f.q]; exact g5 i hi⟩)
theorem x_is (a lo hi : Int32) (h : PH) : fX0_is a lo hi h = some (sIn a lo.toInt hi.toInt, h) := by
  unfold fX0_is sIn
  rw [jn_s]
  by_cases c1 : a < lo
  · have := Int32.lt_iff_toInt_lt.mp c1
    rw [if_pos c1, decide_eq_false (by omega)]
  · have q1 := mt Int32.lt_iff_toInt_lt.mpr c1
    rw [if_neg c1]
    by_cases c2 : hi < a
    · have := Int32.lt_iff_toInt_lt.mp c2
      rw [if_pos c2, decide_eq_false (by omega)]
    · have q2 := mt Int32.lt_iff_toInt_lt.mpr c2
      rw [if_neg c2, decide_eq_true (by omega)]
section AS
variable {D : PD} {B : Nat} {g : SG} {c : CZ} {h0 : PH}
theorem x_isAhead {k : SK} {w : SW} (hw : wOk k w) (ht : cSt k w 14 c) (n a b : Int32) (ha : 0 ≤ a.toInt) (hb : b.toInt ≤ 1000) : fX0_isAhead B n a b (mk B c h0) = some (sAh w n a.toInt b.toInt, mk B c h0) := by
  have hy := hw.2.1
  unfold fX0_isAhead sAh
  rw [x_is, bnd_s]
  simp only [jn_s]
  cases e : sIn n a.toInt b.toInt with
  | false => rfl
  | true =>
    rw [if_neg (by decide), x0_F9, vA_s, st_F0 is14, vI_s, ht.1]
    have e9 : (999 : Int32).toInt = 999 := by decide
    have es : (nI (wY w) + n).toInt = (wY w : Int) + n.toInt := by
      obtain ⟨j, rfl, h1, h2⟩ := sIn_nat e ha (by omega)
      rw [nI_add, nI_toInt (by omega), nI_toInt (by omega)]
      omega
    by_cases c2 : 999 < nI (wY w) + n
    · have := Int32.lt_iff_toInt_lt.mp c2
      rw [es, e9] at this
      rw [if_pos c2, decide_eq_false (by omega)]
      rfl
    · have := mt Int32.lt_iff_toInt_lt.mpr c2
      rw [es, e9] at this
      rw [if_neg c2, decide_eq_true (by omega)]
      rfl
theorem x_has (h : cG B g c h0) (a : Int32) : fX0_has_2 B a (mk B c h0) = some (spHas g a, mk B c h0) := by
  obtain ⟨h0', h1, h2, h3, h4, h5, -⟩ := h
  have h8 := h1.1.2.1
  obtain ⟨hw, ht, hr⟩ := h2
  obtain ⟨sa, f0, -, b, st, fl, pl, tq, fo, po, g1, -⟩ := h1.F0
  unfold fX0_has_2 spHas
  by_cases c0 : a = 0
  · rw [if_pos c0, if_pos c0, x0_cls, ckc_s, x_facts h1, bnd_s]
  rw [if_neg c0, if_neg c0]
  by_cases c1 : a = 1
  · rw [if_pos c1, if_pos c1, x0_cls, ckc_s, x_people h1, bnd_s]
  rw [if_neg c1, if_neg c1]
  by_cases c2 : a = 2
  · rw [if_pos c2, if_pos c2, f0, vA_s, pF_of (k := 1) g1 rfl, vI_s]
  rw [if_neg c2, if_neg c2]
  by_cases c3 : a = 3
  · rw [if_pos c3, if_pos c3, f0, vA_s, pF_of (k := 2) g1 rfl, vI_s]
  rw [if_neg c3, if_neg c3]
  by_cases c4 : a = 4
  · rw [if_pos c4, if_pos c4, x0_F9, vA_s, st_F0 is14, vI_s, ht.1]
  rw [if_neg c4, if_neg c4]
  by_cases c5 : a = 5
  · rw [if_pos c5, if_pos c5, x0_F9, vA_s, st_F1 is14, vI_s, ht.2.1, bitCount_v (sWho_lt _ _ _ h8), bnd_s]
  rw [if_neg c5, if_neg c5]
  by_cases c6 : a = 6
  · rw [if_pos c6, if_pos c6, x0_F9, vA_s, st_F2 is14, vI_s, ht.2.2.1, bitCount_v (sWho_lt _ _ _ h8), bnd_s]
  rw [if_neg c6, if_neg c6]
  by_cases c7 : a = 7
  · rw [if_pos c7, if_pos c7, x0_F9, vA_s, st_cls is14, ckc_s, x_beliefs h1 is14 hw ht, bnd_s]
  rw [if_neg c7, if_neg c7]
  by_cases c8 : a = 8
  · rw [if_pos c8, if_pos c8, x0_F9, vA_s, st_F3 is14, vI_s, hr.2.1]
  rw [if_neg c8, if_neg c8]
  by_cases c9 : a = 9
  · rw [if_pos c9, if_pos c9, x0_F13, vI_s, h5.2.1]
  rw [if_neg c9, if_neg c9]
  by_cases c10 : a = 10
  · rw [if_pos c10, if_pos c10, x0_F16, vI_s, h4.2.1]
  rw [if_neg c10, if_neg c10]
/-- how many are right (1), wrong (2) of a fact, as the component counts -/
theorem sRiM_is {k : SK} {w : SW} (hw : wOk k w) (f : Nat) : ∀ n, n ≤ kP k → sRiM w n f = cnt (fun p => if sIs w p f = 1 then 1 else 0) n := fun n hn => by
  refine cnt_congr n (fun q hq => ?_)
  unfold sIs
  cases (wR w q).testBit f <;> cases (wW w q).testBit f <;> rfl
theorem sWrM_is {k : SK} {w : SW} (hw : wOk k w) {f : Nat} (hf : f < 8) : ∀ n, n ≤ kP k → sWrM w n f = cnt (fun p => if sIs w p f = 2 then 1 else 0) n := fun n hn => by
  refine cnt_congr n (fun q hq => ?_)
  have hd := (hw.2.2 q (by omega)).2.2.2.1 f hf
  unfold sIs
  cases h1 : (wR w q).testBit f <;> cases h2 : (wW w q).testBit f <;> first | rfl | exact absurd ⟨h1, h2⟩ hd
theorem x_standing (h : cG B g c h0) {f a : Nat} (hf : f < 8) (ha : a < 3) : fX0_standing B (nI f) (nI a) (mk B c h0) = some (nI (cnt (fun p => if sIs (gW g) p f = a then 1 else 0) (kP (gK g))), mk B c h0) := by
  obtain ⟨h0', h1, ⟨hw, ht, hr⟩, -⟩ := h
  have h8 := h1.1.2.1
  unfold fX0_standing
  refine fx_gen (F := fX0_standing_L5 B (nI f) (nI a)) (z := fun _ _ _ => none) (fun s j x => s (nI x) (nI j) (mk B c h0)) (kP (gK g)) (fun p s => s + if sIs (gW g) p f = a then 1 else 0) (fun _ _ => True) (fun a => some (nI a, mk B c h0)) ?_ (fun _ _ _ _ => trivial) ?_ FU 0 0 (Nat.zero_le _) trivial (FU_gt (by omega))
  · intro s j x hj _
    have l := sIs_lt (gW g) j f
    show fX0_standing_L5 B (nI f) (nI a) s (nI x) (nI j) (mk B c h0) = _
    unfold fX0_standing_L5
    rw [x0_cls, ckc_s, x_people h1, bnd_s, if_neg (nI_ge hj (by omega)), x0_F9, vA_s, st_cls is14, ckc_s, x_stands h1.1 is14 hw ht hj hf, bnd_s]
    simp only [jn_s, nI_1]
    by_cases e : sIs (gW g) j f = a
    · rw [if_pos (by rw [e]), if_pos e]
      show s (nI x + nI 1) _ _ = _
      rw [nI_add]
    · rw [if_neg (fun q => e ((nI_eq (by omega) (by omega)).mp q)), if_neg e]
      show s (nI x + nI 0) _ _ = _
      rw [nI_add]
  · intro s x _
    show fX0_standing_L5 B (nI f) (nI a) s (nI x) (nI (kP (gK g))) (mk B c h0) = _
    unfold fX0_standing_L5
    rw [x0_cls, ckc_s, x_people h1, bnd_s, if_pos (nI_le (Nat.le_refl _) (by omega))]
theorem x_fact (h : cG B g c h0) (a b : Int32) : fX0_fact B a b (mk B c h0) = some (spFact g a b, mk B c h0) := by
  have h1 := h.2.1
  have hF := h1.1.1
  have hw := h.2.2.1.1
  unfold fX0_fact spFact
  rw [x0_cls, ckc_s, x_isFact h1, bnd_s]
  cases e : sPn (kF (gK g)) a with
  | false => rfl
  | true =>
    obtain ⟨f, hf, rfl⟩ := sPn_nat e hF
    have s1 := x_standing h (f := f) (a := 1) (by omega) (by decide)
    have s2 := x_standing h (f := f) (a := 2) (by omega) (by decide)
    rw [← sRiM_is hw f _ (Nat.le_refl _)] at s1
    rw [← sWrM_is hw (show f < 8 by omega) _ (Nat.le_refl _)] at s2
    have s1 : fX0_standing B (nI f) 1 (mk B c h0) = _ := s1
    have s2 : fX0_standing B (nI f) 2 (mk B c h0) = _ := s2
    rw [if_neg (by decide), if_pos rfl, nI_c (by omega)]
    simp only [jn_s]
    by_cases c0 : b = 0
    · rw [if_pos c0, if_pos c0, x0_cls, ckc_s, x_worthOf h1 hf, bnd_s]
    rw [if_neg c0, if_neg c0]
    by_cases c1 : b = 1
    · rw [if_pos c1, if_pos c1, x0_cls, ckc_s, c1, s1, bnd_s]
    rw [if_neg c1, if_neg c1]
    by_cases c2 : b = 2
    · rw [if_pos c2, if_pos c2, x0_cls, ckc_s, c2, s2, bnd_s]
    rw [if_neg c2, if_neg c2]
theorem x_person (h : cG B g c h0) (a b : Int32) : fX0_person B a b (mk B c h0) = some (spPerson g a b, mk B c h0) := by
  have h1 := h.2.1
  have h8 := h1.1.2.1
  obtain ⟨hw, ht, hr⟩ := h.2.2.1
  have l0 := sWho_lt (gW g) (kP (gK g)) 0 h8
  have l1 := sWho_lt (gW g) (kP (gK g)) 1 h8
  unfold fX0_person spPerson
  rw [x0_cls, ckc_s, x_isPerson h1, bnd_s]
  cases e : sPn (kP (gK g)) a with
  | false => rfl
  | true =>
    obtain ⟨p, hp, rfl⟩ := sPn_nat e h8
    have e2 := x_pupils h1 is14 hw ht (m := p + 1) (by omega)
    rw [nI_pred] at e2
    have b0 : (sWho (gW g) (kP (gK g)) 0).testBit p = (wF (gW g) p).testBit 0 := by rw [sWho_bit _ _ _ h8 p (by omega), decide_eq_true hp, Bool.true_and]
    have b1 : (sWho (gW g) (kP (gK g)) 1).testBit p = (wF (gW g) p).testBit 1 := by rw [sWho_bit _ _ _ h8 p (by omega), decide_eq_true hp, Bool.true_and]
    have eb : ∀ t : Bool, (if bI t = 0 then some ((0 : Int32), mk B c h0) else some (1, mk B c h0)) = some (b01 t, mk B c h0) := fun t => by cases t <;> rfl
    rw [if_neg (by decide), if_pos rfl, nI_c (by omega)]
    by_cases c0 : b = 0
    · rw [if_pos c0, if_pos c0, x0_cls, ckc_s, x_calmOf h1 hp, bnd_s]
    rw [if_neg c0, if_neg c0]
    by_cases c1 : b = 1
    · rw [if_pos c1, if_pos c1, x0_F9, vA_s, st_F4 is14, vA_s, st_m is14 ht hp h8, ob_s]
    rw [if_neg c1, if_neg c1]
    by_cases c2 : b = 2
    · rw [if_pos c2, if_pos c2, x0_F9, vA_s, st_cls is14, ckc_s, e2, bnd_s]
    rw [if_neg c2, if_neg c2]
    by_cases c3 : b = 3
    · rw [if_pos c3, if_pos c3, x0_F9, vA_s, st_F5 is14, vA_s, st_r is14 ht hp h8, ob_s]
    rw [if_neg c3, if_neg c3]
    by_cases c4 : b = 4
    · rw [if_pos c4, if_pos c4, x0_F9, vA_s, st_F6 is14, vA_s, st_w is14 ht hp h8, ob_s]
    rw [if_neg c4, if_neg c4]
    by_cases c5 : b = 5
    · rw [if_pos c5, if_pos c5, x0_F9, vA_s, st_F7 is14, vA_s, st_l is14 ht hp h8, ob_s]
    rw [if_neg c5, if_neg c5]
    by_cases c6 : b = 6
    · rw [if_pos c6, if_pos c6, x0_F9, vA_s, st_F1 is14, vI_s, ht.2.1, has_v l0 (by omega), bnd_s, b0, eb]
    rw [if_neg c6, if_neg c6]
    by_cases c7 : b = 7
    · rw [if_pos c7, if_pos c7, x0_F9, vA_s, st_F2 is14, vI_s, ht.2.2.1, has_v l1 (by omega), bnd_s, b1, eb]
    rw [if_neg c7, if_neg c7]
theorem x_marksP (h : cG B g c h0) (a : Int32) : fX0_marks B a (mk B c h0) = some (spMarks g a, mk B c h0) := by
  have h1 := h.2.1
  have h8 := h1.1.2.1
  obtain ⟨hw, ht, hr⟩ := h.2.2.1
  unfold fX0_marks spMarks
  rw [x0_cls, ckc_s, x_isPerson h1, bnd_s]
  cases e : sPn (kP (gK g)) a with
  | false => rfl
  | true =>
    obtain ⟨p, hp, rfl⟩ := sPn_nat e h8
    rw [if_neg (by decide), if_pos rfl, nI_c (by omega), x0_F9, vA_s, st_cls is14, ckc_s, x_marks h1 is14 hw ht hp, bnd_s]
theorem x_next (hD : ∃ q, dS D 7 = va_rf q) (h : cG B g c h0) (a : Int32) : ∃ c', fX0_next D B a (mk B c h0) = some (spNext g a, mk B c' h0) ∧ cG B g c' h0 := by
  have h1 := h.2.1
  have h8 := h1.1.2.1
  obtain ⟨hw, ht, hr⟩ := h.2.2.1
  unfold fX0_next spNext
  rw [x0_cls, ckc_s, x_isPerson h1, bnd_s]
  cases e : sPn (kP (gK g)) a with
  | false => exact ⟨c, rfl, h⟩
  | true =>
    obtain ⟨p, hp, rfl⟩ := sPn_nat e h8
    obtain ⟨c', e1, e2⟩ := x_lesson hD h1 is14 hw ht hp
    rw [if_neg (by decide), if_pos rfl, nI_c (by omega), x0_F9, vA_s, st_cls is14, ckc_s, e1, bnd_s]
    exact ⟨c', rfl, h.mo e2⟩
theorem x_kept (h : cG B g c h0) (a b : Int32) : fX0_kept B a b (mk B c h0) = some (spKept g a b, mk B c h0) := by
  obtain ⟨hw, ht, r1, r2, π, g3, g4, g5, g6⟩ := h.2.2.1
  unfold fX0_kept spKept
  have et : (nI (wK (gW g)).length - 1).toInt = ((wK (gW g)).length : Int) - 1 := by
    have : ∀ n, n ≤ 30 → (nI n - 1).toInt = (n : Int) - 1 := by decide +kernel
    exact this _ r1
  rw [x0_F9, vA_s, st_F3 is14, vI_s, r2, x_is, bnd_s, et, show (0 : Int32).toInt = 0 from by decide, sIn_pn]
  simp only [jn_s]
  cases e : sPn (wK (gW g)).length a with
  | false =>
    rw [if_pos (by decide), if_neg (by simp)]
  | true =>
    rw [if_neg (by decide), x_is, bnd_s, show (0 : Int32).toInt = 0 from by decide, show (2 : Int32).toInt = 2 from by decide]
    cases e2 : sIn b 0 2 with
    | false =>
      rw [if_pos (by decide), if_neg (by simp)]
    | true =>
      have : ∃ p, p < (wK (gW g)).length ∧ a = nI p := by
        have := of_decide_eq_true e
        refine ⟨a.toInt.toNat, by omega, ?_⟩
        apply Int32.toInt_inj.mp
        rw [nI_toInt (by omega)]
        omega
      obtain ⟨i, hi, rfl⟩ := this
      obtain ⟨m, rfl, -, hm⟩ := sIn_nat e2 (by decide) (by decide)
      obtain ⟨z1, z2, z3⟩ := g6 i hi
      have pi := g3 i (by omega)
      have lq : pLdQ (mk B c h0) (B + 14 + 5) 6 (nI i) = some (some (B + (14 + 6 + π i))) := by
        rw [Nat.add_assoc, (st_k5 is14).ld c h0 (inb_nI (show i < 30 by omega) (by decide)), nI_c (by omega), g5 i (by omega)]
      rw [if_neg (by decide), if_pos ⟨rfl, rfl⟩, x0_F9, vA_s, st_F8 is14, vA_s, lq, ob_s, qS_s, (st_kr is14 pi).ld c h0 (inb_nI (show m < 3 by omega) (by decide)), ob_s, nI_c (by omega), nI_c (by omega)]
      rcases (show m = 0 ∨ m = 1 ∨ m = 2 by omega) with rfl | rfl | rfl
      · rw [z1, if_pos (by decide)]
      · rw [z2, if_neg (by decide), if_pos (by decide)]
      · rw [z3, if_neg (by decide), if_neg (by decide)]
theorem x_status (h : cG B g c h0) (a : Int32) : fX0_status B a (mk B c h0) = some (spStatus g a, mk B c h0) := by
  have h7 := h.2.2.2.2.2.2.2.1
  unfold fX0_status spStatus
  rw [x_is, bnd_s, show (0 : Int32).toInt = 0 from by decide, show (5 : Int32).toInt = 5 from by decide]
  cases e : sIn a 0 5 with
  | false => rfl
  | true =>
    obtain ⟨m, rfl, -, hm⟩ := sIn_nat e (by decide) (by decide)
    rw [if_neg (by decide), if_pos rfl, x0_F8, vA_s, k_ref.ld c h0 (inb_nI (show m < 6 by omega) (by decide)), ob_s, nI_c (by omega), h7 m (by omega)]
theorem x_fault (h : cG B g c h0) (a : Int32) : fX0_fault B a (mk B c h0) = some (spFault g a, mk B c h0) := by
  have h8 := h.2.2.2.2.2.2.2.2.1
  unfold fX0_fault spFault
  by_cases c0 : a = 0
  · rw [if_pos c0, if_pos c0, x0_F3, vI_s, h8.1]
  rw [if_neg c0, if_neg c0]
  by_cases c1 : a = 1
  · rw [if_pos c1, if_pos c1, x0_F4, vI_s, h8.2]
  rw [if_neg c1, if_neg c1]
theorem x_octet (h : cG B g c h0) (a : Int32) : fX0_octet B a (mk B c h0) = some (spOctet g a, mk B c h0) := by
  have h10 := h.2.2.2.2.2.2.2.2.2.2.1
  have l43 := h.1.2.2.2.2.2.2.1
  have l256 := h.1.2.2.2.2.2.2.2
  unfold fX0_octet spOctet sPn
  simp only [jn_s]
  by_cases c0 : a < 0
  · have := Int32.lt_iff_toInt_lt.mp c0
    have e0 : (0 : Int32).toInt = 0 := by decide
    rw [if_pos c0, decide_eq_false (by omega), if_neg (by decide)]
  · obtain ⟨j, hj, rfl⟩ := nI_of c0
    rw [if_neg c0, x0_F20, vI_s, h10.1, nI_toInt hj]
    by_cases c1 : (gO g).length ≤ j
    · rw [if_neg (nI_nlt c1 hj), decide_eq_false (by omega), if_neg (by decide)]
    · rw [if_pos (nI_lt (by omega) (by omega)), decide_eq_true (by omega), if_pos rfl, x0_F19, vA_s, k_out.ld c h0 (inb_nI (show j < 43 by omega) (by decide)), ob_s, nI_c hj, h10.2 j (by omega), sb_255 _ (l256 j (by omega))]
end AS
