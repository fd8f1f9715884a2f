/-! PART 33: plain: no code asks for a part that is none -/
set_option maxRecDepth 100000
def no52 (c : List Int32) : Prop := ∀ x, x ∈ c → x ≠ 52
def rNo (f : Nat → RS (List Int32)) : Prop := ∀ i c e, f i = .inr (c, e) → no52 c
theorem no52.app {c1 c2 : List Int32} (h1 : no52 c1) (h2 : no52 c2) : no52 (c1 ++ c2) := fun x hx => by
  rcases List.mem_append.mp hx with h | h
  · exact h1 x h
  · exact h2 x h
theorem no52.one {x : Int32} (h : x ≠ 52) : no52 [x] := fun y hy => by rw [List.mem_singleton.mp hy]; exact h
theorem ops_52 {o : Int32} (h : o = 1 ∨ o = 2 ∨ o = 3 ∨ o = 4 ∨ o = 5 ∨ o = 6 ∨ o = 7 ∨ o = 8 ∨ o = 9 ∨ o = 10 ∨ o = 11) : o ≠ 52 := by
  rcases h with rfl | rfl | rfl | rfl | rfl | rfl | rfl | rfl | rfl | rfl | rfl <;> decide
theorem nI_52 {k : Nat} (h : k < 2 ^ 31) (h2 : k ≠ 52) : nI k ≠ 52 := fun e => h2 ((nI_eq (b := 52) h (by decide)).mp e)
section NO
variable {n : Nat} {b : Nat → Nat} {q : Nat}
theorem rChain_no {part : Nat → RS (List Int32)} (hp : rNo part) {op : Nat → Option Int32} (ho : ∀ s o, op s = some o → o = 1 ∨ o = 2 ∨ o = 3 ∨ o = 4 ∨ o = 5 ∨ o = 6 ∨ o = 7 ∨ o = 8 ∨ o = 9 ∨ o = 10 ∨ o = 11) : ∀ (f : Nat) (c : List Int32) (i : Nat) (c2 : List Int32) (e : Nat), no52 c → rChain n b part op f c i = .inr (c2, e) → no52 c2
  | 0, c, i, c2, e, hc, h => by
    cases h
    exact hc
  | f + 1, c, i, c2, e, hc, h => by
    have h : (match op (rB n b (sSk n b i)) with
      | none => .inr (c, sSk n b i)
      | some o => sbd (part (sSk n b i + 1)) fun c2 e => rChain n b part op f (c ++ c2 ++ [o]) e) = (.inr (c2, e) : RS (List Int32)) := h
    cases qo : op (rB n b (sSk n b i)) with
    | none =>
      rw [qo] at h
      cases h
      exact hc
    | some o =>
      rw [qo] at h
      obtain ⟨c3, e3, q1, q2⟩ := sbd_inr h
      exact rChain_no hp ho f (c ++ c3 ++ [o]) e3 c2 e ((hc.app (hp _ _ _ q1)).app (no52.one (ops_52 (ho _ _ qo)))) q2
theorem rProd_no {atom : Nat → RS (List Int32)} (hp : rNo atom) : rNo (rProd n b atom) := by
  intro i c e h
  obtain ⟨c3, e3, q1, q2⟩ := sbd_inr h
  exact rChain_no hp opM_o _ _ _ _ _ (hp _ _ _ q1) q2
theorem rSumO_no {atom : Nat → RS (List Int32)} (hp : rNo atom) : rNo (rSumO n b atom) := by
  intro i c e h
  obtain ⟨c3, e3, q1, q2⟩ := sbd_inr h
  exact rChain_no (rProd_no hp) opA_o _ _ _ _ _ (rProd_no hp _ _ _ q1) q2
theorem rWithin_no {dp : Bool} {sum : Nat → RS (List Int32)} (hp : rNo sum) {x j : Nat} {c : List Int32} {e : Nat} (h : rWithin n b dp sum x j = .inr (c, e)) : no52 c := by
  unfold rWithin at h
  by_cases c1 : rB n b j = 40
  · rw [if_pos c1] at h
    by_cases c2 : dp = false
    · rw [if_pos c2] at h; cases h
    · rw [if_neg c2] at h
      obtain ⟨c3, e3, q1, q2⟩ := sbd_inr h
      have q3 := hp _ _ _ q1
      by_cases c4 : x = 0
      · rw [if_pos c4] at q2
        obtain ⟨c5, e5, q6, q7⟩ := sbd_inr q2
        cases q7
        exact q3
      · rw [if_neg c4] at q2
        obtain ⟨c5, e5, q6, q7⟩ := sbd_inr q2
        obtain ⟨c6, e6, q9, q10⟩ := sbd_inr q7
        have q11 := hp _ _ _ q9
        obtain ⟨c7, e7, q13, q14⟩ := sbd_inr q10
        cases q14
        exact (q3.app q11).app (no52.one (by split <;> decide))
  · rw [if_neg c1] at h; cases h
theorem rAtomB_no {dp : Bool} {sum atom : Nat → RS (List Int32)} (hp : rNo sum) (ha : rNo atom) {j : Nat} {c : List Int32} {e : Nat} (h : rAtomB n b q dp sum atom j = .inr (c, e)) : no52 c := by
  unfold rAtomB at h
  by_cases c1 : rB n b j = 40
  · rw [if_pos c1] at h
    exact rWithin_no hp h
  rw [if_neg c1] at h
  by_cases c2 : isD (rB n b j) = true
  · rw [if_pos c2] at h
    obtain ⟨v, e3, q1, q2⟩ := sbd_inr h
    obtain ⟨-, -, -, -, -, -, -, -, q4, -⟩ := rNumJ_r q1
    cases q2
    exact no52.one (nI_52 (by omega) (by omega))
  rw [if_neg c2] at h
  obtain ⟨w, e3, q1, q2⟩ := sbd_inr h
  cases q8 : prtA q w.1 with
  | some k =>
    rw [q8] at q2
    obtain ⟨k1, k2, -⟩ := prtA_w q8
    cases q2
    exact no52.one (nI_52 (by omega) (by omega))
  | none =>
    rw [q8] at q2
    have q2 : rAtomW n b q dp sum atom w.1 w.2 e3 = .inr (c, e) := q2
    unfold rAtomW at q2
    by_cases d1 : w.1 = wBy ∧ q = 2
    · rw [if_pos d1] at q2
      by_cases d2 : dp = false
      · rw [if_pos d2] at q2; cases q2
      · rw [if_neg d2] at q2
        obtain ⟨c5, e5, q9, q10⟩ := sbd_inr q2
        cases q10
        exact (ha _ _ _ q9).app (no52.one (by decide))
    · rw [if_neg d1] at q2
      by_cases d2 : w.1 = wMin
      · rw [if_pos d2] at q2
        exact rWithin_no hp q2
      · rw [if_neg d2] at q2
        by_cases d3 : w.1 = wMax
        · rw [if_pos d3] at q2
          exact rWithin_no hp q2
        · rw [if_neg d3] at q2; cases q2
theorem rBad_no : rNo rBad := fun i c e h => by cases h
theorem rAtom_no (n : Nat) (b : Nat → Nat) (q : Nat) : ∀ r, rNo (rAtom n b q r)
  | 0 => fun i c e h => rAtomB_no rBad_no rBad_no h
  | r + 1 => fun i c e h => rAtomB_no (rSumO_no (rAtom_no n b q r)) (rAtom_no n b q r) h
theorem rSum_no (n : Nat) (b : Nat → Nat) (q r : Nat) : rNo (rSum n b q r) := rSumO_no (rAtom_no n b q r)
theorem rChainW_no {part : Nat → RS (List Int32)} (hp : rNo part) {w : List Nat} {o : Int32} (ho : o = 10 ∨ o = 11) : ∀ (f : Nat) (c : List Int32) (i : Nat) (c2 : List Int32) (e : Nat), no52 c → rChainW n b part w o f c i = .inr (c2, e) → no52 c2
  | 0, c, i, c2, e, hc, h => by
    cases h
    exact hc
  | f + 1, c, i, c2, e, hc, h => by
    have h : (match rWordJ n b (sSk n b i) with
      | .inr (v, e) => if v.1 = w then sbd (part e) fun c2 e2 => rChainW n b part w o f (c ++ c2 ++ [o]) e2 else .inr (c, sSk n b i)
      | .inl g => if isL (rB n b (sSk n b i)) = true then .inl g else .inr (c, sSk n b i)) = (.inr (c2, e) : RS (List Int32)) := h
    cases qw : rWordJ n b (sSk n b i) with
    | inl g =>
      rw [qw] at h
      have h : (if isL (rB n b (sSk n b i)) = true then .inl g else .inr (c, sSk n b i)) = (.inr (c2, e) : RS (List Int32)) := h
      by_cases d : isL (rB n b (sSk n b i)) = true
      · rw [if_pos d] at h; cases h
      · rw [if_neg d] at h
        cases h
        exact hc
    | inr v =>
      obtain ⟨v, e1⟩ := v
      rw [qw] at h
      have h : (if v.1 = w then sbd (part e1) fun c2 e2 => rChainW n b part w o f (c ++ c2 ++ [o]) e2 else .inr (c, sSk n b i)) = (.inr (c2, e) : RS (List Int32)) := h
      by_cases d : v.1 = w
      · rw [if_pos d] at h
        obtain ⟨c3, e3, q1, q2⟩ := sbd_inr h
        exact rChainW_no hp ho f (c ++ c3 ++ [o]) e3 c2 e ((hc.app (hp _ _ _ q1)).app (no52.one (by rcases ho with rfl | rfl <;> decide))) q2
      · rw [if_neg d] at h
        cases h
        exact hc
theorem rBothO_no {fact : Nat → RS (List Int32)} (hp : rNo fact) : rNo (rBothO n b fact) := by
  intro i c e h
  obtain ⟨c3, e3, q1, q2⟩ := sbd_inr h
  exact rChainW_no hp (Or.inl rfl) _ _ _ _ _ (hp _ _ _ q1) q2
theorem rTestO_no {fact : Nat → RS (List Int32)} (hp : rNo fact) : rNo (rTestO n b fact) := by
  intro i c e h
  obtain ⟨c3, e3, q1, q2⟩ := sbd_inr h
  exact rChainW_no (rBothO_no hp) (Or.inr rfl) _ _ _ _ _ (rBothO_no hp _ _ _ q1) q2
theorem rCmp_no {sum : Nat → RS (List Int32)} (hp : rNo sum) {j : Nat} {c : List Int32} {e : Nat} (h : rCmp n b sum j = .inr (c, e)) : no52 c := by
  obtain ⟨c1, e1, q1, q2⟩ := sbd_inr h
  have q3 := hp _ _ _ q1
  by_cases d : rB n b (sSk n b e1) = 60 ∨ rB n b (sSk n b e1) = 61 ∨ rB n b (sSk n b e1) = 62
  · rw [if_pos d] at q2
    obtain ⟨c5, e5, q6, q7⟩ := sbd_inr q2
    have q8 := hp _ _ _ q6
    cases q7
    exact (q3.app q8).app (no52.one (by split <;> (try split) <;> decide))
  · rw [if_neg d] at q2; cases q2
theorem rFactB_no {dp : Bool} {sum test fact : Nat → RS (List Int32)} (hs : rNo sum) (ht : rNo test) (hf : rNo fact) {j : Nat} {c : List Int32} {e : Nat} (h : rFactB n b dp sum test fact j = .inr (c, e)) : no52 c := by
  unfold rFactB at h
  by_cases c1 : rB n b j = 91
  · rw [if_pos c1] at h
    by_cases c2 : dp = false
    · rw [if_pos c2] at h; cases h
    · rw [if_neg c2] at h
      obtain ⟨c3, e3, q1, q2⟩ := sbd_inr h
      have q3 := ht _ _ _ q1
      obtain ⟨c5, e5, q6, q7⟩ := sbd_inr q2
      cases q7
      exact q3
  rw [if_neg c1] at h
  cases qw : rWordJ n b j with
  | inl g =>
    rw [qw] at h
    exact rCmp_no hs h
  | inr v =>
    obtain ⟨v, e1⟩ := v
    rw [qw] at h
    have h : (if v.1 = wNot then (if dp = false then .inl (4, j) else sbd (fact e1) fun c e2 => .inr (c ++ [12], e2)) else if v.1 = wAll then .inr ([13], e1) else rCmp n b sum j) = (.inr (c, e) : RS (List Int32)) := h
    by_cases d1 : v.1 = wNot
    · rw [if_pos d1] at h
      by_cases d2 : dp = false
      · rw [if_pos d2] at h; cases h
      · rw [if_neg d2] at h
        obtain ⟨c5, e5, q9, q10⟩ := sbd_inr h
        cases q10
        exact (hf _ _ _ q9).app (no52.one (by decide))
    · rw [if_neg d1] at h
      by_cases d2 : v.1 = wAll
      · rw [if_pos d2] at h
        cases h
        exact no52.one (by decide)
      · rw [if_neg d2] at h
        exact rCmp_no hs h
theorem rFact_no (n : Nat) (b : Nat → Nat) (q : Nat) : ∀ r, rNo (rFact n b q r)
  | 0 => fun i c e h => rFactB_no (rSum_no n b q 0) rBad_no rBad_no h
  | r + 1 => fun i c e h => rFactB_no (rSum_no n b q (r + 1)) (rTestO_no (rFact_no n b q r)) (rFact_no n b q r) h
theorem rTest_no (n : Nat) (b : Nat → Nat) (q r : Nat) : rNo (rTest n b q r) := rTestO_no (rFact_no n b q r)
end NO
