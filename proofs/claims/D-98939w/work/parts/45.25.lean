/-! PART 25: plain: what statements say (the descent), and that codes are well made -/
set_option maxRecDepth 100000
section CD
variable {n : Nat} {b : Nat → Nat} {q : Nat}
def rCd (q : Nat) (f : Nat → RS (List Int32)) : Prop := ∀ i c e, f i = .inr (c, e) → ∀ cs d, cDep (alOf q) (c ++ cs) d = cDep (alOf q) cs (d + 1)
theorem cDep_two {al : Nat → Bool} {o : Int32} (ho : o = 1 ∨ o = 2 ∨ o = 3 ∨ o = 4 ∨ o = 5 ∨ o = 6 ∨ o = 7 ∨ o = 8 ∨ o = 9 ∨ o = 10 ∨ o = 11) (cs : List Int32) (d : Nat) : cDep al (o :: cs) (d + 1 + 1) = cDep al cs (d + 1) := by
  have e : cDep al (o :: cs) (d + 1 + 1) = if o < 1000 then
      if o < 60 then
        if o < 40 then
          if o = 13 then cDep al cs (d + 1 + 1 + 1)
          else if o = 12 then (if 1 ≤ d + 1 + 1 then cDep al cs (d + 1 + 1) else none)
          else if 1 ≤ o ∧ o ≤ 11 then (if 2 ≤ d + 1 + 1 then cDep al cs (d + 1 + 1 - 1) else none) else none
        else if al (o - 40).toNatClampNeg = true then cDep al cs (d + 1 + 1 + 1) else none
      else if al 12 = true ∧ o = 60 then (if 1 ≤ d + 1 + 1 then cDep al cs (d + 1 + 1) else none) else none
    else if o ≤ 10999 then cDep al cs (d + 1 + 1 + 1) else none := rfl
  have ok : o < 1000 ∧ o < 60 ∧ o < 40 ∧ o ≠ 13 ∧ o ≠ 12 ∧ 1 ≤ o ∧ o ≤ 11 := by
    rcases ho with rfl | rfl | rfl | rfl | rfl | rfl | rfl | rfl | rfl | rfl | rfl <;> decide
  rw [e, if_pos ok.1, if_pos ok.2.1, if_pos ok.2.2.1, if_neg ok.2.2.2.1, if_neg ok.2.2.2.2.1, if_pos ok.2.2.2.2.2, if_pos (by omega), Nat.add_sub_cancel]
theorem rChain_cd {part : Nat → RS (List Int32)} (hp : rCd q part) {op : Nat → Option Int32} (ho : ∀ s o, op s = some o → o = 1 ∨ o = 2 ∨ o = 3 ∨ o = 4 ∨ o = 5 ∨ o = 6 ∨ o = 7 ∨ o = 8 ∨ o = 9 ∨ o = 10 ∨ o = 11) : ∀ (f : Nat) (c : List Int32) (i : Nat) (c2 : List Int32) (e : Nat), (∀ cs d, cDep (alOf q) (c ++ cs) d = cDep (alOf q) cs (d + 1)) → rChain n b part op f c i = .inr (c2, e) → ∀ cs d, cDep (alOf q) (c2 ++ cs) d = cDep (alOf q) cs (d + 1)
  | 0, c, i, c2, e, hc, h => by
    cases h
    exact hc
  | f + 1, c, i, c2, e, hc, h => by
    have h : (match op (rB n b (sSk n b i)) with
      | none => .inr (c, sSk n b i)
      | some o => sbd (part (sSk n b i + 1)) fun c2 e => rChain n b part op f (c ++ c2 ++ [o]) e) = (.inr (c2, e) : RS (List Int32)) := h
    cases qo : op (rB n b (sSk n b i)) with
    | none =>
      rw [qo] at h
      cases h
      exact hc
    | some o =>
      rw [qo] at h
      obtain ⟨c3, e3, q1, q2⟩ := sbd_inr h
      refine rChain_cd hp ho f (c ++ c3 ++ [o]) e3 c2 e (fun cs d => ?_) q2
      rw [List.append_assoc, List.append_assoc, hc, hp _ _ _ q1]
      exact cDep_two (ho _ _ qo) cs d
theorem opM_o : ∀ s o, opM s = some o → o = 1 ∨ o = 2 ∨ o = 3 ∨ o = 4 ∨ o = 5 ∨ o = 6 ∨ o = 7 ∨ o = 8 ∨ o = 9 ∨ o = 10 ∨ o = 11 := by
  intro s o h
  have := (opM_some h).2.1
  rw [this]
  split <;> simp
theorem opA_o : ∀ s o, opA s = some o → o = 1 ∨ o = 2 ∨ o = 3 ∨ o = 4 ∨ o = 5 ∨ o = 6 ∨ o = 7 ∨ o = 8 ∨ o = 9 ∨ o = 10 ∨ o = 11 := by
  intro s o h
  have := (opA_some h).2.1
  rw [this]
  split <;> simp
theorem rProd_cd {atom : Nat → RS (List Int32)} (hp : rCd q atom) : rCd q (rProd n b atom) := by
  intro i c e h
  obtain ⟨c3, e3, q1, q2⟩ := sbd_inr h
  exact rChain_cd hp opM_o _ _ _ _ _ (hp _ _ _ q1) q2
theorem rSumO_cd {atom : Nat → RS (List Int32)} (hp : rCd q atom) : rCd q (rSumO n b atom) := by
  intro i c e h
  obtain ⟨c3, e3, q1, q2⟩ := sbd_inr h
  exact rChain_cd (rProd_cd hp) opA_o _ _ _ _ _ (rProd_cd hp _ _ _ q1) q2
theorem rWithin_cd {dp : Bool} {sum : Nat → RS (List Int32)} (hp : rCd q sum) {x j : Nat} {c : List Int32} {e : Nat} (h : rWithin n b dp sum x j = .inr (c, e)) : ∀ cs d, cDep (alOf q) (c ++ cs) d = cDep (alOf q) cs (d + 1) := by
  unfold rWithin at h
  by_cases c1 : rB n b j = 40
  · rw [if_pos c1] at h
    by_cases c2 : dp = false
    · rw [if_pos c2] at h; cases h
    · rw [if_neg c2] at h
      obtain ⟨c3, e3, q1, q2⟩ := sbd_inr h
      have q3 := hp _ _ _ q1
      by_cases c4 : x = 0
      · rw [if_pos c4] at q2
        obtain ⟨c5, e5, q6, q7⟩ := sbd_inr q2
        cases q7
        exact q3
      · rw [if_neg c4] at q2
        obtain ⟨c5, e5, q6, q7⟩ := sbd_inr q2
        obtain ⟨c6, e6, q9, q10⟩ := sbd_inr q7
        have q11 := hp _ _ _ q9
        obtain ⟨c7, e7, q13, q14⟩ := sbd_inr q10
        cases q14
        intro cs d
        rw [List.append_assoc, List.append_assoc, q3, q11]
        exact cDep_two (by split <;> simp) cs d
  · rw [if_neg c1] at h; cases h
theorem cDep_num {al : Nat → Bool} {v : Nat} (hv : v ≤ 9999) (cs : List Int32) (d : Nat) : cDep al (nI (1000 + v) :: cs) d = cDep al cs (d + 1) := by
  show (if nI (1000 + v) < 1000 then _ else if nI (1000 + v) ≤ 10999 then cDep al cs (d + 1) else none) = _
  rw [if_neg (show ¬ nI (1000 + v) < 1000 from nI_nlt (b := 1000) (by omega) (by omega)), if_pos (show nI (1000 + v) ≤ 10999 from nI_le (b := 10999) (by omega) (by decide))]
theorem cDep_prt {al : Nat → Bool} {k : Nat} (hk : k < 12) (ha : al k = true) (cs : List Int32) (d : Nat) : cDep al (nI (40 + k) :: cs) d = cDep al cs (d + 1) := by
  have e1 : (nI (40 + k) - 40).toNatClampNeg = k := by
    rw [show (40 : Int32) = nI 40 from rfl, nI_sub (by omega), Nat.add_sub_cancel_left, nI_c (by omega)]
  show (if nI (40 + k) < 1000 then
      if nI (40 + k) < 60 then
        if nI (40 + k) < 40 then _
        else if al (nI (40 + k) - 40).toNatClampNeg = true then cDep al cs (d + 1) else none
      else _ else _) = _
  rw [if_pos (show nI (40 + k) < 1000 from nI_lt (b := 1000) (by omega) (by decide)), if_pos (show nI (40 + k) < 60 from nI_lt (b := 60) (by omega) (by decide)), if_neg (show ¬ nI (40 + k) < 40 from nI_nlt (b := 40) (by omega) (by omega)), e1, if_pos ha]
theorem cDep_by {al : Nat → Bool} (ha : al 12 = true) (cs : List Int32) (d : Nat) : cDep al (60 :: cs) (d + 1) = cDep al cs (d + 1) := by
  show (if (60 : Int32) < 1000 then
      if (60 : Int32) < 60 then _
      else if al 12 = true ∧ (60 : Int32) = 60 then (if 1 ≤ d + 1 then cDep al cs (d + 1) else none) else none else _) = _
  rw [if_pos (by decide), if_neg (by decide), if_pos ⟨ha, rfl⟩, if_pos (by omega)]
theorem rAtomB_cd {dp : Bool} {sum atom : Nat → RS (List Int32)} (hp : rCd q sum) (ha : rCd q atom) {j : Nat} {c : List Int32} {e : Nat} (h : rAtomB n b q dp sum atom j = .inr (c, e)) : ∀ cs d, cDep (alOf q) (c ++ cs) d = cDep (alOf q) cs (d + 1) := by
  unfold rAtomB at h
  by_cases c1 : rB n b j = 40
  · rw [if_pos c1] at h
    exact rWithin_cd hp h
  rw [if_neg c1] at h
  by_cases c2 : isD (rB n b j) = true
  · rw [if_pos c2] at h
    obtain ⟨v, e3, q1, q2⟩ := sbd_inr h
    obtain ⟨-, -, -, -, -, -, -, -, q4, -⟩ := rNumJ_r q1
    cases q2
    intro cs d
    exact cDep_num q4 cs d
  rw [if_neg c2] at h
  obtain ⟨w, e3, q1, q2⟩ := sbd_inr h
  cases q8 : prtA q w.1 with
  | some k =>
    rw [q8] at q2
    obtain ⟨k1, k2, -⟩ := prtA_w q8
    cases q2
    intro cs d
    exact cDep_prt k1 k2 cs d
  | none =>
    rw [q8] at q2
    have q2 : rAtomW n b q dp sum atom w.1 w.2 e3 = .inr (c, e) := q2
    unfold rAtomW at q2
    by_cases d1 : w.1 = wBy ∧ q = 2
    · rw [if_pos d1] at q2
      by_cases d2 : dp = false
      · rw [if_pos d2] at q2; cases q2
      · rw [if_neg d2] at q2
        obtain ⟨c5, e5, q9, q10⟩ := sbd_inr q2
        cases q10
        intro cs d
        rw [List.append_assoc, ha _ _ _ q9]
        exact cDep_by (by rw [d1.2]; decide) cs d
    · rw [if_neg d1] at q2
      by_cases d2 : w.1 = wMin
      · rw [if_pos d2] at q2
        exact rWithin_cd hp q2
      · rw [if_neg d2] at q2
        by_cases d3 : w.1 = wMax
        · rw [if_pos d3] at q2
          exact rWithin_cd hp q2
        · rw [if_neg d3] at q2; cases q2
theorem rBad_cd : rCd q rBad := fun i c e h => by cases h
theorem rAtom_cd : ∀ r, rCd q (rAtom n b q r)
  | 0 => fun i c e h => rAtomB_cd rBad_cd rBad_cd h
  | r + 1 => fun i c e h => rAtomB_cd (rSumO_cd (rAtom_cd r)) (rAtom_cd r) h
theorem rSum_cd (r : Nat) : rCd q (rSum n b q r) := rSumO_cd (rAtom_cd r)
theorem rChainW_cd {part : Nat → RS (List Int32)} (hp : rCd q part) {w : List Nat} {o : Int32} (ho : o = 10 ∨ o = 11) : ∀ (f : Nat) (c : List Int32) (i : Nat) (c2 : List Int32) (e : Nat), (∀ cs d, cDep (alOf q) (c ++ cs) d = cDep (alOf q) cs (d + 1)) → rChainW n b part w o f c i = .inr (c2, e) → ∀ cs d, cDep (alOf q) (c2 ++ cs) d = cDep (alOf q) cs (d + 1)
  | 0, c, i, c2, e, hc, h => by
    cases h
    exact hc
  | f + 1, c, i, c2, e, hc, h => by
    have h : (match rWordJ n b (sSk n b i) with
      | .inr (v, e) => if v.1 = w then sbd (part e) fun c2 e2 => rChainW n b part w o f (c ++ c2 ++ [o]) e2 else .inr (c, sSk n b i)
      | .inl g => if isL (rB n b (sSk n b i)) = true then .inl g else .inr (c, sSk n b i)) = (.inr (c2, e) : RS (List Int32)) := h
    cases qw : rWordJ n b (sSk n b i) with
    | inl g =>
      rw [qw] at h
      have h : (if isL (rB n b (sSk n b i)) = true then .inl g else .inr (c, sSk n b i)) = (.inr (c2, e) : RS (List Int32)) := h
      by_cases d : isL (rB n b (sSk n b i)) = true
      · rw [if_pos d] at h; cases h
      · rw [if_neg d] at h
        cases h
        exact hc
    | inr v =>
      obtain ⟨v, e1⟩ := v
      rw [qw] at h
      have h : (if v.1 = w then sbd (part e1) fun c2 e2 => rChainW n b part w o f (c ++ c2 ++ [o]) e2 else .inr (c, sSk n b i)) = (.inr (c2, e) : RS (List Int32)) := h
      by_cases d : v.1 = w
      · rw [if_pos d] at h
        obtain ⟨c3, e3, q1, q2⟩ := sbd_inr h
        refine rChainW_cd hp ho f (c ++ c3 ++ [o]) e3 c2 e (fun cs d => ?_) q2
        rw [List.append_assoc, List.append_assoc, hc, hp _ _ _ q1]
        exact cDep_two (by rcases ho with rfl | rfl <;> simp) cs d
      · rw [if_neg d] at h
        cases h
        exact hc
theorem rBothO_cd {fact : Nat → RS (List Int32)} (hp : rCd q fact) : rCd q (rBothO n b fact) := by
  intro i c e h
  obtain ⟨c3, e3, q1, q2⟩ := sbd_inr h
  exact rChainW_cd hp (Or.inl rfl) _ _ _ _ _ (hp _ _ _ q1) q2
theorem rTestO_cd {fact : Nat → RS (List Int32)} (hp : rCd q fact) : rCd q (rTestO n b fact) := by
  intro i c e h
  obtain ⟨c3, e3, q1, q2⟩ := sbd_inr h
  exact rChainW_cd (rBothO_cd hp) (Or.inr rfl) _ _ _ _ _ (rBothO_cd hp _ _ _ q1) q2
theorem rCmp_cd {sum : Nat → RS (List Int32)} (hp : rCd q sum) {j : Nat} {c : List Int32} {e : Nat} (h : rCmp n b sum j = .inr (c, e)) : ∀ cs d, cDep (alOf q) (c ++ cs) d = cDep (alOf q) cs (d + 1) := by
  obtain ⟨c1, e1, q1, q2⟩ := sbd_inr h
  have q3 := hp _ _ _ q1
  by_cases d : rB n b (sSk n b e1) = 60 ∨ rB n b (sSk n b e1) = 61 ∨ rB n b (sSk n b e1) = 62
  · rw [if_pos d] at q2
    obtain ⟨c5, e5, q6, q7⟩ := sbd_inr q2
    have q8 := hp _ _ _ q6
    cases q7
    intro cs d
    rw [List.append_assoc, List.append_assoc, q3, q8]
    exact cDep_two (by split <;> (try split) <;> simp) cs d
  · rw [if_neg d] at q2; cases q2
theorem rFactB_cd {dp : Bool} {sum test fact : Nat → RS (List Int32)} (hs : rCd q sum) (ht : rCd q test) (hf : rCd q fact) {j : Nat} {c : List Int32} {e : Nat} (h : rFactB n b dp sum test fact j = .inr (c, e)) : ∀ cs d, cDep (alOf q) (c ++ cs) d = cDep (alOf q) cs (d + 1) := by
  unfold rFactB at h
  by_cases c1 : rB n b j = 91
  · rw [if_pos c1] at h
    by_cases c2 : dp = false
    · rw [if_pos c2] at h; cases h
    · rw [if_neg c2] at h
      obtain ⟨c3, e3, q1, q2⟩ := sbd_inr h
      have q3 := ht _ _ _ q1
      obtain ⟨c5, e5, q6, q7⟩ := sbd_inr q2
      cases q7
      exact q3
  rw [if_neg c1] at h
  cases qw : rWordJ n b j with
  | inl g =>
    rw [qw] at h
    exact rCmp_cd hs h
  | inr v =>
    obtain ⟨v, e1⟩ := v
    rw [qw] at h
    have h : (if v.1 = wNot then (if dp = false then .inl (4, j) else sbd (fact e1) fun c e2 => .inr (c ++ [12], e2)) else if v.1 = wAll then .inr ([13], e1) else rCmp n b sum j) = (.inr (c, e) : RS (List Int32)) := h
    by_cases d1 : v.1 = wNot
    · rw [if_pos d1] at h
      by_cases d2 : dp = false
      · rw [if_pos d2] at h; cases h
      · rw [if_neg d2] at h
        obtain ⟨c5, e5, q9, q10⟩ := sbd_inr h
        cases q10
        intro cs d
        rw [List.append_assoc, hf _ _ _ q9]
        show (if (12 : Int32) < 1000 then
          if (12 : Int32) < 60 then
            if (12 : Int32) < 40 then
              if (12 : Int32) = 13 then _
              else if (12 : Int32) = 12 then (if 1 ≤ d + 1 then cDep (alOf q) cs (d + 1) else none) else _
            else _ else _ else _) = _
        rw [if_pos (by decide), if_pos (by decide), if_pos (by decide), if_neg (by decide), if_pos rfl, if_pos (by omega)]
    · rw [if_neg d1] at h
      by_cases d2 : v.1 = wAll
      · rw [if_pos d2] at h
        cases h
        intro cs d
        show (if (13 : Int32) < 1000 then
          if (13 : Int32) < 60 then
            if (13 : Int32) < 40 then
              if (13 : Int32) = 13 then cDep (alOf q) cs (d + 1) else _
            else _ else _ else _) = _
        rw [if_pos (by decide), if_pos (by decide), if_pos (by decide), if_pos rfl]
      · rw [if_neg d2] at h
        exact rCmp_cd hs h
theorem rFact_cd : ∀ r, rCd q (rFact n b q r)
  | 0 => fun i c e h => rFactB_cd (rSum_cd 0) rBad_cd rBad_cd h
  | r + 1 => fun i c e h => rFactB_cd (rSum_cd (r + 1)) (rTestO_cd (rFact_cd r)) (rFact_cd r) h
theorem rTest_cd {r i : Nat} {c : List Int32} {e : Nat} (h : rTest n b q r i = .inr (c, e)) : cDep (alOf q) c 0 = some 1 := by
  have := rTestO_cd (rFact_cd r) i c e h [] 0
  rw [List.append_nil] at this
  rw [this]
  rfl
theorem rSum_cd1 {r i : Nat} {c : List Int32} {e : Nat} (h : rSum n b q r i = .inr (c, e)) : cDep (alOf q) c 0 = some 1 := by
  have := rSum_cd r i c e h [] 0
  rw [List.append_nil] at this
  rw [this]
  rfl
end CD
/-! statements -/
def stW (s : ST) : SW := (0, tM s, tR s, tW s, fun _ => kSe (tK s) 1, fun _ => 0, [])
def stOk (s : ST) : Prop := kOk (tK s) ∧ wOk (tK s) (stW s) ∧ (∀ kd i, kd < 2 → i < kN (tK s) kd → nmOk (tNm s kd i)) ∧ ∀ p, kP (tK s) ≤ p → tM s p = 0 ∧ tR s p = 0 ∧ tW s p = 0
def st0 : ST := (((0, 0), fun _ => 0, fun _ => 0, (fun i => if i = 0 then 10 else if i = 1 then 3 else 0), fun _ => none), fun _ _ => [], fun _ => 0, fun _ => 0, fun _ => 0)
def sAddF (s : ST) (l : List Nat) (x : Nat) : ST := (((kF (tK s) + 1, kP (tK s)), va_up (tK s).2.1 (kF (tK s)) x, (tK s).2.2), (fun kd i => if kd = 0 ∧ i = kF (tK s) then l else tNm s kd i), s.2.2)
def sAddP (s : ST) (l : List Nat) (x : Nat) : ST := (((kF (tK s), kP (tK s) + 1), (tK s).2.1, va_up (tK s).2.2.1 (kP (tK s)) x, (tK s).2.2.2), (fun kd i => if kd = 1 ∧ i = kP (tK s) then l else tNm s kd i), s.2.2)
def sRgt (s : ST) (p f : Nat) : ST := (s.1, s.2.1, s.2.2.1, va_up (tR s) p (tR s p ||| 2 ^ f), tW s)
def sWrg (s : ST) (p f : Nat) : ST := (s.1, s.2.1, s.2.2.1, tR s, va_up (tW s) p (tW s p ||| 2 ^ f))
def sMst' (s : ST) (p m : Nat) : ST := (s.1, s.2.1, va_up (tM s) p (m + 1), s.2.2.2)
def sSet' (s : ST) (i v : Nat) : ST := (((tK s).1, (tK s).2.1, (tK s).2.2.1, va_up (tK s).2.2.2.1 i v, (tK s).2.2.2.2), s.2)
def sTst (s : ST) (i : Nat) (c : List Int32) : ST := (((tK s).1, (tK s).2.1, (tK s).2.2.1, (tK s).2.2.2.1, va_up (tK s).2.2.2.2 i (some c)), s.2)
theorem vu_at {α : Type} (f : Nat → α) (i : Nat) (v : α) (j : Nat) : va_up f i v j = if j = i then v else f j := by
  by_cases h : j = i <;> simp [va_up, h]
theorem st0_ok : stOk st0 := by
  refine ⟨⟨by decide, by decide, fun f hf => absurd hf (Nat.not_lt_zero _), fun f hf => absurd hf (Nat.not_lt_zero _), by decide, fun i c _ h => by cases h⟩, ⟨fun q hq => absurd hq (Nat.not_lt_zero _), by decide, fun q hq => absurd hq (Nat.not_lt_zero _)⟩, ?_, fun p _ => ⟨rfl, rfl, rfl⟩⟩
  intro kd i _ hi
  have : kN (tK st0) kd = 0 := by
    unfold kN
    split <;> rfl
  omega
theorem stOk.addF {s : ST} (h : stOk s) {l : List Nat} {x : Nat} (hF : kF (tK s) < 8) (hl : nmOk l) (hx : 1 ≤ x ∧ x ≤ 9) : stOk (sAddF s l x) := by
  obtain ⟨⟨h1, h2, h3, h4, h5, h6⟩, ⟨w1, w2, w3⟩, h7, h8⟩ := h
  refine ⟨⟨hF, h2, fun f hf => ?_, h4, h5, h6⟩, ⟨w1, w2, fun p hp => ?_⟩, fun kd i hk hi => ?_, h8⟩
  · show 1 ≤ va_up (tK s).2.1 (kF (tK s)) x f ∧ va_up (tK s).2.1 (kF (tK s)) x f ≤ 9
    rw [vu_at]
    have hf : f < kF (tK s) + 1 := hf
    by_cases c : f = kF (tK s)
    · rw [if_pos c]; exact hx
    · rw [if_neg c]; exact h3 f (by omega)
  · obtain ⟨q1, q2, q3, q4⟩ := w3 p hp
    have : 2 ^ kF (tK s) ≤ 2 ^ (kF (tK s) + 1) := Nat.pow_le_pow_right (by decide) (by omega)
    exact ⟨q1, Nat.lt_of_lt_of_le q2 this, Nat.lt_of_lt_of_le q3 this, q4⟩
  · show nmOk (if kd = 0 ∧ i = kF (tK s) then l else tNm s kd i)
    by_cases c : kd = 0 ∧ i = kF (tK s)
    · rw [if_pos c]; exact hl
    · rw [if_neg c]
      refine h7 kd i hk ?_
      have hi : i < if kd = 0 then kF (tK s) + 1 else kP (tK s) := hi
      unfold kN
      by_cases k0 : kd = 0
      · rw [if_pos k0] at hi ⊢
        have : ¬ i = kF (tK s) := fun e => c ⟨k0, e⟩
        omega
      · rw [if_neg k0] at hi ⊢
        exact hi
theorem stOk.addP {s : ST} (h : stOk s) {l : List Nat} {x : Nat} (hP : kP (tK s) < 8) (hl : nmOk l) (hx : x ≤ 99) : stOk (sAddP s l x) := by
  obtain ⟨⟨h1, h2, h3, h4, h5, h6⟩, ⟨w1, w2, w3⟩, h7, h8⟩ := h
  refine ⟨⟨h1, hP, h3, fun f hf => ?_, h5, h6⟩, ⟨fun q hq i hi => ?_, w2, fun p hp => ?_⟩, fun kd i hk hi => ?_, fun p hp => ?_⟩
  · show va_up (tK s).2.2.1 (kP (tK s)) x f ≤ 99
    rw [vu_at]
    have hf : f < kP (tK s) + 1 := hf
    by_cases c : f = kP (tK s)
    · rw [if_pos c]; exact hx
    · rw [if_neg c]; exact h4 f (by omega)
  · have hq : q < kP (tK s) + 1 := hq
    by_cases c : q = kP (tK s)
    · show wUp (tM s) i (q + 1) ≠ q + 1
      obtain ⟨i, rfl⟩ : ∃ i', i = i' + 1 := ⟨i - 1, by omega⟩
      show (if q + 1 = 0 then 0 else wUp (tM s) i (tM s (q + 1 - 1))) ≠ q + 1
      rw [if_neg (by omega), Nat.add_sub_cancel, (h8 q (by omega)).1, wUp_0]
      omega
    · exact w1 q (by omega) i hi
  · have hp : p < kP (tK s) + 1 := hp
    by_cases c : p = kP (tK s)
    · obtain ⟨e1, e2, e3⟩ := h8 p (by omega)
      show tM s p ≤ kP (tK s) + 1 ∧ tR s p < 2 ^ kF (tK s) ∧ tW s p < 2 ^ kF (tK s) ∧ (∀ f, f < 8 → ¬ ((tR s p).testBit f = true ∧ (tW s p).testBit f = true)) ∧ kSe (tK s) 1 ≤ 9 ∧ 0 < 4
      rw [e1, e2, e3]
      refine ⟨by omega, Nat.pow_pos (by decide), Nat.pow_pos (by decide), fun f _ g => ?_, h5.2.1, by decide⟩
      rw [Nat.zero_testBit] at g
      cases g.1
    · obtain ⟨q1, q2⟩ := w3 p (by omega)
      exact ⟨by have q1 : tM s p ≤ kP (tK s) := q1; show tM s p ≤ kP (tK s) + 1; omega, q2⟩
  · show nmOk (if kd = 1 ∧ i = kP (tK s) then l else tNm s kd i)
    by_cases c : kd = 1 ∧ i = kP (tK s)
    · rw [if_pos c]; exact hl
    · rw [if_neg c]
      refine h7 kd i hk ?_
      have hi : i < if kd = 0 then kF (tK s) else kP (tK s) + 1 := hi
      unfold kN
      by_cases k0 : kd = 0
      · rw [if_pos k0] at hi ⊢
        exact hi
      · rw [if_neg k0] at hi ⊢
        have : ¬ i = kP (tK s) := fun e => c ⟨by omega, e⟩
        omega
  · have hp : kP (tK s) + 1 ≤ p := hp
    exact h8 p (by omega)
theorem or_bit {r f k : Nat} (hr : r < 2 ^ k) (hf : f < k) : r ||| 2 ^ f < 2 ^ k := Nat.or_lt_two_pow hr (Nat.pow_lt_pow_right (by decide) hf)
theorem tb_or {r f j : Nat} : (r ||| 2 ^ f).testBit j = (r.testBit j || decide (f = j)) := by
  rw [Nat.testBit_or, Nat.testBit_two_pow]
theorem stOk.rgt {s : ST} (h : stOk s) {p f : Nat} (hp : p < kP (tK s)) (hf : f < kF (tK s)) (hw : (tW s p).testBit f = false) : stOk (sRgt s p f) := by
  obtain ⟨hk, ⟨w1, w2, w3⟩, h7, h8⟩ := h
  refine ⟨hk, ⟨w1, w2, fun p' hp' => ?_⟩, h7, fun p' hp' => ?_⟩
  · obtain ⟨q1, q2, q3, q4, q5⟩ := w3 p' hp'
    have er : wR (stW (sRgt s p f)) p' = if p' = p then tR s p ||| 2 ^ f else tR s p' := vu_at _ _ _ _
    refine ⟨q1, ?_, q3, fun g hg => ?_, q5⟩
    · rw [er]
      by_cases c : p' = p
      · rw [if_pos c]
        rw [c] at q2
        exact or_bit q2 hf
      · rw [if_neg c]; exact q2
    · rw [er]
      by_cases c : p' = p
      · rw [if_pos c, tb_or]
        rintro ⟨g1, g2⟩
        have g2 : (tW s p').testBit g = true := g2
        rw [c] at g2 q4
        rcases Bool.or_eq_true _ _ ▸ g1 with g1 | g1
        · exact q4 g hg ⟨g1, g2⟩
        · rw [of_decide_eq_true g1, g2] at hw
          cases hw
      · rw [if_neg c]; exact q4 g hg
  · have : tR (sRgt s p f) p' = if p' = p then tR s p ||| 2 ^ f else tR s p' := vu_at _ _ _ _
    have hp' : kP (tK s) ≤ p' := hp'
    rw [this, if_neg (by omega)]
    exact h8 p' hp'
theorem stOk.wrg {s : ST} (h : stOk s) {p f : Nat} (hp : p < kP (tK s)) (hf : f < kF (tK s)) (hw : (tR s p).testBit f = false) : stOk (sWrg s p f) := by
  obtain ⟨hk, ⟨w1, w2, w3⟩, h7, h8⟩ := h
  refine ⟨hk, ⟨w1, w2, fun p' hp' => ?_⟩, h7, fun p' hp' => ?_⟩
  · obtain ⟨q1, q2, q3, q4, q5⟩ := w3 p' hp'
    have er : wW (stW (sWrg s p f)) p' = if p' = p then tW s p ||| 2 ^ f else tW s p' := vu_at _ _ _ _
    refine ⟨q1, q2, ?_, fun g hg => ?_, q5⟩
    · rw [er]
      by_cases c : p' = p
      · rw [if_pos c]
        rw [c] at q3
        exact or_bit q3 hf
      · rw [if_neg c]; exact q3
    · rw [er]
      by_cases c : p' = p
      · rw [if_pos c, tb_or]
        rintro ⟨g2, g1⟩
        have g2 : (tR s p').testBit g = true := g2
        rw [c] at g2 q4
        rcases Bool.or_eq_true _ _ ▸ g1 with g1 | g1
        · exact q4 g hg ⟨g2, g1⟩
        · rw [of_decide_eq_true g1, g2] at hw
          cases hw
      · rw [if_neg c]; exact q4 g hg
  · have : tW (sWrg s p f) p' = if p' = p then tW s p ||| 2 ^ f else tW s p' := vu_at _ _ _ _
    have hp' : kP (tK s) ≤ p' := hp'
    rw [this, if_neg (by omega)]
    exact h8 p' hp'
theorem stOk.mst {s : ST} (h : stOk s) {p m : Nat} (hp : p < kP (tK s)) (hm : m < kP (tK s)) (hb : sBy (tM s) 8 (m + 1) p = false) : stOk (sMst' s p m) := by
  refine ⟨h.1, ?_, h.2.2.1, fun p' hp' => ?_⟩
  · exact h.2.1.master h.1 (show m + 1 ≤ kP (tK s) from hm) (Or.inr hb)
  · have : tM (sMst' s p m) p' = if p' = p then m + 1 else tM s p' := vu_at _ _ _ _
    have hp' : kP (tK s) ≤ p' := hp'
    rw [this, if_neg (by omega)]
    exact h.2.2.2 p' hp'
theorem stOk.set {s : ST} (h : stOk s) {i v : Nat} (hv : (i = 0 ∧ v ≤ 99) ∨ (i = 1 ∧ v ≤ 9) ∨ (i = 2 ∧ v ≤ 100)) : stOk (sSet' s i v) := by
  obtain ⟨⟨h1, h2, h3, h4, h5, h6⟩, ⟨w1, w2, w3⟩, h7, h8⟩ := h
  have e : ∀ j, kSe (tK (sSet' s i v)) j = if j = i then v else kSe (tK s) j := fun j => vu_at _ _ _ _
  have k5 : kSe (tK (sSet' s i v)) 0 ≤ 99 ∧ kSe (tK (sSet' s i v)) 1 ≤ 9 ∧ kSe (tK (sSet' s i v)) 2 ≤ 100 := by
    rw [e, e, e]
    rcases hv with ⟨rfl, g⟩ | ⟨rfl, g⟩ | ⟨rfl, g⟩
    · exact ⟨g, h5.2.1, h5.2.2⟩
    · exact ⟨h5.1, g, h5.2.2⟩
    · exact ⟨h5.1, h5.2.1, g⟩
  refine ⟨⟨h1, h2, h3, h4, k5, h6⟩, ⟨w1, w2, fun p hp => ?_⟩, h7, h8⟩
  obtain ⟨q1, q2, q3, q4, q5, q6⟩ := w3 p hp
  exact ⟨q1, q2, q3, q4, k5.2.1, q6⟩
theorem stOk.tst {s : ST} (h : stOk s) {i : Nat} {c : List Int32} (hc : cDep (alOf (kdOf i)) c 0 = some 1) : stOk (sTst s i c) := by
  obtain ⟨⟨h1, h2, h3, h4, h5, h6⟩, hw, h7, h8⟩ := h
  refine ⟨⟨h1, h2, h3, h4, h5, fun j c' hj e => ?_⟩, hw, h7, h8⟩
  have ej : kTe (tK (sTst s i c)) j = if j = i then some c else kTe (tK s) j := vu_at _ _ _ _
  rw [ej] at e
  by_cases g : j = i
  · rw [if_pos g] at e
    cases e
    rw [g]
    exact hc
  · rw [if_neg g] at e
    exact h6 j c' hj e
