/-! PART 17: plain: the Model's stack is looked at and dropped -/
set_option maxRecDepth 100000
section RH
variable {n : Nat} {b : Nat → Nat} {q : Nat} {z0 : MS} {σ0 : List Int32} {i bs : Nat}
def tpI (σ : List Int32) (x : Int32) : Bool := match σ with
  | [] => false
  | y :: _ => decide (y = x)
theorem m_qIsOn_v {σ C : List Int32} {d : Nat} {z : MS} (h : mQ n b q z0 i σ C d bs z) (hl : σ.length ≤ 1600) (x : Int32) : m_qIsOn x z = some (tpI σ x, z) := by
  unfold m_qIsOn
  rw [jn_s]
  cases σ with
  | nil =>
    rw [h.2.2.2.1.2.2.1, if_pos (by decide)]
    rfl
  | cons y τ =>
    have hl : τ.length + 1 ≤ 1600 := hl
    obtain ⟨t1, t2, t3, t4⟩ := h.top (by omega)
    rw [t1, ck_t t2, t3, t4, h.2.2.2.1.2.2.1, if_neg (nI_nle (by show 0 < τ.length + 1; omega) (by show τ.length + 1 < _; omega))]
    show (if y = x then _ else _) = some (decide (y = x), z)
    by_cases c : y = x
    · rw [if_pos c, decide_eq_true c]
    · rw [if_neg c, decide_eq_false c]
/-- operations of the wanted kind are dropped -/
theorem pop_M (k : MS → Option (Bool × MS)) (dm : MS → Option (Bool × MS)) (h0 : ∀ x τ, σ0 = x :: τ → isMu x = false) : ∀ (m : Nat) (σ C : List Int32) (d : Nat) (z : MS), mQ n b q z0 i (σ ++ σ0) C d bs z → C.length + (σ ++ σ0).length ≤ 1600 → σ.length < m →
    ∃ z', fx (m_qGoesOn_L162 k) dm m z = k z' ∧ mQ n b q z0 i ((popW isMu σ C).1 ++ σ0) (popW isMu σ C).2 d bs z'
  | 0, σ, C, d, z, _, _, h => absurd h (Nat.not_lt_zero _)
  | m + 1, σ, C, d, z, h, hl, hm => by
    have IH := pop_M k dm h0 m
    rw [fx_s]
    generalize fx (m_qGoesOn_L162 k) dm m = S at IH ⊢
    unfold m_qGoesOn_L162
    rw [m_qIsOn_v h (by omega), bnd_s, jn_s]
    cases σ with
    | nil =>
      have e : ∀ x, isMu x = true → tpI ([] ++ σ0) x = false := by
        intro x hx
        cases qs : σ0 with
        | nil => rfl
        | cons y τ =>
          have := h0 y τ qs
          refine decide_eq_false (fun e => ?_)
          rw [e, hx] at this
          cases this
      rw [e 3 (by decide), if_pos (by decide), m_qIsOn_v h (by omega), bnd_s, e 4 (by decide), if_pos (by decide)]
      exact ⟨z, rfl, h⟩
    | cons x τ =>
      have hl : C.length + ((τ ++ σ0).length + 1) ≤ 1600 := hl
      have et : ∀ y, tpI (x :: τ ++ σ0) y = decide (x = y) := fun y => rfl
      have ep : popW isMu (x :: τ) C = if isMu x = true then popW isMu τ (C ++ [x]) else (x :: τ, C) := rfl
      rw [et, ep]
      have go : isMu x = true → ∃ z', (bnv (m_qDrops z) fun z11 => S z11) = k z' ∧ mQ n b q z0 i ((popW isMu τ (C ++ [x])).1 ++ σ0) (popW isMu τ (C ++ [x])).2 d bs z' := by
        intro hx
        obtain ⟨z1, q1, q2⟩ := mQ.drops (σ := τ ++ σ0) (x := x) h (by omega) (by omega)
        rw [q1, bnv_s]
        exact IH τ (C ++ [x]) d z1 q2 (by rw [List.length_append (as := C)]; show C.length + 1 + _ ≤ 1600; omega) (by have hm : τ.length + 1 < m + 1 := hm; omega)
      by_cases c3 : x = 3
      · rw [decide_eq_true c3, if_neg (by decide), if_pos (show isMu x = true from decide_eq_true (Or.inl c3))]
        exact go (decide_eq_true (Or.inl c3))
      · rw [decide_eq_false c3, if_pos (by decide), m_qIsOn_v h (by show (τ ++ σ0).length + 1 ≤ 1600; omega), bnd_s, et]
        by_cases c4 : x = 4
        · rw [decide_eq_true c4, if_neg (by decide), if_pos (show isMu x = true from decide_eq_true (Or.inr c4))]
          exact go (decide_eq_true (Or.inr c4))
        · rw [decide_eq_false c4, if_pos (by decide), if_neg (show ¬ isMu x = true from fun g => (of_decide_eq_true g).elim c3 c4)]
          exact ⟨z, rfl, h⟩
theorem pop_A (k : MS → Option (Bool × MS)) (dm : MS → Option (Bool × MS)) (h0 : ∀ x τ, σ0 = x :: τ → isOp x = false) : ∀ (m : Nat) (σ C : List Int32) (d : Nat) (z : MS), mQ n b q z0 i (σ ++ σ0) C d bs z → C.length + (σ ++ σ0).length ≤ 1600 → σ.length < m →
    ∃ z', fx (m_qGoesOn_L247 k) dm m z = k z' ∧ mQ n b q z0 i ((popW isOp σ C).1 ++ σ0) (popW isOp σ C).2 d bs z'
  | 0, σ, C, d, z, _, _, h => absurd h (Nat.not_lt_zero _)
  | m + 1, σ, C, d, z, h, hl, hm => by
    have IH := pop_A k dm h0 m
    rw [fx_s]
    generalize fx (m_qGoesOn_L247 k) dm m = S at IH ⊢
    unfold m_qGoesOn_L247
    rw [m_qIsOn_v h (by omega), bnd_s, jn_s]
    cases σ with
    | nil =>
      have e : ∀ x, isOp x = true → tpI ([] ++ σ0) x = false := by
        intro x hx
        cases qs : σ0 with
        | nil => rfl
        | cons y τ =>
          have := h0 y τ qs
          refine decide_eq_false (fun e => ?_)
          rw [e, hx] at this
          cases this
      rw [e 3 (by decide), if_pos (by decide), m_qIsOn_v h (by omega), bnd_s, e 4 (by decide), if_pos (by decide), m_qIsOn_v h (by omega), bnd_s, e 1 (by decide), if_pos (by decide), m_qIsOn_v h (by omega), bnd_s, e 2 (by decide), if_pos (by decide)]
      exact ⟨z, rfl, h⟩
    | cons x τ =>
      have hl : C.length + ((τ ++ σ0).length + 1) ≤ 1600 := hl
      have hl2 : (x :: τ ++ σ0).length ≤ 1600 := by show (τ ++ σ0).length + 1 ≤ 1600; omega
      have et : ∀ y, tpI (x :: τ ++ σ0) y = decide (x = y) := fun y => rfl
      have ep : popW isOp (x :: τ) C = if isOp x = true then popW isOp τ (C ++ [x]) else (x :: τ, C) := rfl
      rw [et, ep]
      have go : isOp x = true → ∃ z', (bnv (m_qDrops z) fun z11 => S z11) = k z' ∧ mQ n b q z0 i ((if isOp x = true then popW isOp τ (C ++ [x]) else (x :: τ, C)).1 ++ σ0) (if isOp x = true then popW isOp τ (C ++ [x]) else (x :: τ, C)).2 d bs z' := by
        intro hx
        rw [if_pos hx]
        obtain ⟨z1, q1, q2⟩ := mQ.drops (σ := τ ++ σ0) (x := x) h (by omega) (by omega)
        rw [q1, bnv_s]
        exact IH τ (C ++ [x]) d z1 q2 (by rw [List.length_append (as := C)]; show C.length + 1 + _ ≤ 1600; omega) (by have hm : τ.length + 1 < m + 1 := hm; omega)
      by_cases c3 : x = 3
      · rw [decide_eq_true c3, if_neg (by decide)]
        exact go (decide_eq_true (Or.inl c3))
      rw [decide_eq_false c3, if_pos (by decide), m_qIsOn_v h hl2, bnd_s, et]
      by_cases c4 : x = 4
      · rw [decide_eq_true c4, if_neg (by decide)]
        exact go (decide_eq_true (Or.inr (Or.inl c4)))
      rw [decide_eq_false c4, if_pos (by decide), m_qIsOn_v h hl2, bnd_s, et]
      by_cases c1 : x = 1
      · rw [decide_eq_true c1, if_neg (by decide)]
        exact go (decide_eq_true (Or.inr (Or.inr (Or.inl c1))))
      rw [decide_eq_false c1, if_pos (by decide), m_qIsOn_v h hl2, bnd_s, et]
      by_cases c2 : x = 2
      · rw [decide_eq_true c2, if_neg (by decide)]
        exact go (decide_eq_true (Or.inr (Or.inr (Or.inr c2))))
      · rw [decide_eq_false c2, if_pos (by decide), if_neg (show ¬ isOp x = true from fun g => (of_decide_eq_true g).elim c3 (fun g => g.elim c4 (fun g => g.elim c1 c2)))]
        exact ⟨z, rfl, h⟩
theorem m_qIsBracket_v (x : Int32) (z : MS) : m_qIsBracket x z = some (isBr x, z) := by
  unfold m_qIsBracket isBr
  rw [jn_s]
  by_cases c1 : x < 20
  · rw [if_pos c1, decide_eq_false (fun g => g.1 c1)]
  · rw [if_neg c1]
    by_cases c2 : 24 < x
    · rw [if_pos c2, decide_eq_false (fun g => g.2 c2)]
    · rw [if_neg c2, decide_eq_true ⟨c1, c2⟩]
def brI (σ : List Int32) : Int32 := match (spl σ).2 with
  | [] => -1
  | x :: _ => x
theorem br_L (dm : Int32 → MS → Option (Int32 × MS)) {C : List Int32} {d : Nat} {z : MS} (k : Int32 → MS → Option (Int32 × MS)) (hk : k = fun (x1 : Int32) (z1 : MS) =>
    if x1 < (mI z1 98) then
      some ((-1), z1)
    else
      ck (inb x1 (mN 95)) <|
      some ((mA z1 95 (Int32.toNatClampNeg x1)), z1)) : ∀ (m : Nat) (pre σ : List Int32), mQ n b q z0 i (pre ++ (σ ++ σ0)) C d σ0.length z → (pre ++ (σ ++ σ0)).length ≤ 1600 → σ.length < m →
    fx (m_qBracket_L7 k) dm m (nI (σ ++ σ0).length - 1) z = some (brI σ, z)
  | 0, pre, σ, _, _, h => absurd h (Nat.not_lt_zero _)
  | m + 1, pre, σ, h, hl, hm => by
    have k6 := h.2.2.2.1.2.2.2.2.2.1
    have IH := br_L dm (C := C) (d := d) (z := z) k hk m
    rw [fx_s]
    generalize fx (m_qBracket_L7 k) dm m = S at IH ⊢
    unfold m_qBracket_L7
    cases σ with
    | nil =>
      have hl0 : σ0.length ≤ 1600 := by
        rw [List.length_append] at hl
        have hl : pre.length + σ0.length ≤ 1600 := hl
        omega
      have e : nI ([] ++ σ0).length - 1 < mI z 98 := by
        rw [k6]
        show nI σ0.length - 1 < nI σ0.length
        rcases Nat.eq_zero_or_pos σ0.length with g | g
        · rw [g]; decide
        · rw [nI_m1 g]; exact nI_lt (by omega) (by omega)
      rw [if_pos e, hk]
      dsimp only
      rw [if_pos e]
      rfl
    | cons x τ =>
      have hl2 : pre.length + ((τ ++ σ0).length + 1) ≤ 1600 := by rw [List.length_append] at hl; exact hl
      have e1 : nI (x :: τ ++ σ0).length - 1 = nI (τ ++ σ0).length := by
        show nI ((τ ++ σ0).length + 1) - 1 = _
        rw [nI_pred]
      have e2 : ¬ nI (τ ++ σ0).length < mI z 98 := by
        rw [k6]
        exact nI_nlt (by rw [List.length_append]; omega) (by omega)
      have e3 : mA z 95 (τ ++ σ0).length = x := by
        rw [h.2.2.2.1.2.2.2.1 _ (by rw [List.length_append (as := pre)]; show _ < pre.length + ((τ ++ σ0).length + 1); omega)]
        have : (pre ++ (x :: τ ++ σ0)).length - 1 - (τ ++ σ0).length = pre.length := by
          rw [List.length_append (as := pre)]
          show pre.length + ((τ ++ σ0).length + 1) - 1 - _ = _
          omega
        rw [this]
        simp [List.getD]
      have e4 : inb (nI (τ ++ σ0).length) (mN 95) = true := inb_nI (by show _ < 1700; omega) (by decide)
      rw [e1, if_neg e2, ck_t e4, nI_c (show (τ ++ σ0).length < 2 ^ 31 by omega), e3, m_qIsBracket_v, bnd_s]
      have es : spl (x :: τ) = if isBr x = true then ([], x :: τ) else (x :: (spl τ).1, (spl τ).2) := rfl
      unfold brI
      rw [es]
      cases c : isBr x with
      | true =>
        rw [if_neg (by decide), if_pos rfl, hk]
        dsimp only
        rw [if_neg e2, ck_t e4, nI_c (show (τ ++ σ0).length < 2 ^ 31 by omega), e3]
      | false =>
        rw [if_pos (by decide), if_neg (by decide), ← Int32.sub_eq_add_neg]
        have ih := IH (pre ++ [x]) τ (by rw [show pre ++ [x] ++ (τ ++ σ0) = pre ++ (x :: τ ++ σ0) by simp]; exact h) (by rw [show pre ++ [x] ++ (τ ++ σ0) = pre ++ (x :: τ ++ σ0) by simp]; exact hl) (by have hm : τ.length + 1 < m + 1 := hm; omega)
        exact ih
theorem m_qBracket_v {σ C : List Int32} {d : Nat} {z : MS} (h : mQ n b q z0 i (σ ++ σ0) C d σ0.length z) (hl : (σ ++ σ0).length ≤ 1600) : m_qBracket z = some (brI σ, z) := by
  unfold m_qBracket
  rw [jn_s, h.2.2.2.1.2.2.1]
  exact br_L _ _ rfl FU [] σ h hl (FU_gt (by rw [List.length_append] at hl; omega))
theorem dtb_L (dm : MS → Option MS) : ∀ (m : Nat) (σ C : List Int32) (d : Nat) (z : MS), mQ n b q z0 i (σ ++ σ0) C d σ0.length z → C.length + (σ ++ σ0).length ≤ 1600 → σ.length < m →
    ∃ z', fx m_qDropsToBracket_L0 dm m z = some z' ∧ mQ n b q z0 i ((spl σ).2 ++ σ0) (C ++ (spl σ).1) d σ0.length z'
  | 0, σ, C, d, z, _, _, h => absurd h (Nat.not_lt_zero _)
  | m + 1, σ, C, d, z, h, hl, hm => by
    have IH := dtb_L dm m
    rw [fx_s]
    generalize fx m_qDropsToBracket_L0 dm m = S at IH ⊢
    unfold m_qDropsToBracket_L0
    rw [h.2.2.2.1.2.2.1, h.2.2.2.1.2.2.2.2.2.1]
    cases σ with
    | nil =>
      rw [if_pos (by exact nI_le (Nat.le_refl _) (by rw [List.length_append] at hl; omega))]
      refine ⟨z, rfl, ?_⟩
      show mQ n b q z0 i ([] ++ σ0) (C ++ []) d σ0.length z
      rw [List.append_nil]
      exact h
    | cons x τ =>
      have hl : C.length + ((τ ++ σ0).length + 1) ≤ 1600 := hl
      obtain ⟨t1, t2, t3, t4⟩ := mQ.top (σ := τ ++ σ0) (x := x) h (by omega)
      have t1' : nI (x :: τ ++ σ0).length - 1 = nI (τ ++ σ0).length := by rw [← h.2.2.2.1.2.2.1]; exact t1
      rw [if_neg (nI_ge (show σ0.length < (x :: τ ++ σ0).length by show _ < (τ ++ σ0).length + 1; rw [List.length_append]; omega) (by show (τ ++ σ0).length + 1 < _; omega)), t1', ck_t t2, t3, t4, m_qIsBracket_v, bnd_s]
      have es : spl (x :: τ) = if isBr x = true then ([], x :: τ) else (x :: (spl τ).1, (spl τ).2) := rfl
      rw [es]
      cases c : isBr x with
      | true =>
        rw [if_neg (by decide), if_pos rfl]
        refine ⟨z, rfl, ?_⟩
        show mQ n b q z0 i (x :: τ ++ σ0) (C ++ []) d σ0.length z
        rw [List.append_nil]
        exact h
      | false =>
        rw [if_pos (by decide), if_neg (by decide)]
        obtain ⟨z1, q1, q2⟩ := mQ.drops (σ := τ ++ σ0) (x := x) h (by omega) (by omega)
        rw [q1, bnv_s]
        obtain ⟨z2, p1, p2⟩ := IH τ (C ++ [x]) d z1 q2 (by rw [List.length_append (as := C)]; show C.length + 1 + _ ≤ 1600; omega) (by have hm : τ.length + 1 < m + 1 := hm; omega)
        refine ⟨z2, p1, ?_⟩
        show mQ n b q z0 i ((spl τ).2 ++ σ0) (C ++ x :: (spl τ).1) d σ0.length z2
        rw [show C ++ x :: (spl τ).1 = C ++ [x] ++ (spl τ).1 by simp]
        exact p2
theorem m_qDropsToBracket_v {σ C : List Int32} {d : Nat} {z : MS} (h : mQ n b q z0 i (σ ++ σ0) C d σ0.length z) (hl : C.length + (σ ++ σ0).length ≤ 1600) :
    ∃ z', m_qDropsToBracket z = some z' ∧ mQ n b q z0 i ((spl σ).2 ++ σ0) (C ++ (spl σ).1) d σ0.length z' :=
  dtb_L _ FU σ C d z h hl (FU_gt (by rw [List.length_append] at hl; omega))
theorem spl_len (σ : List Int32) : (spl σ).1.length + (spl σ).2.length = σ.length := by
  induction σ with
  | nil => rfl
  | cons x τ ih =>
    have es : spl (x :: τ) = if isBr x = true then ([], x :: τ) else (x :: (spl τ).1, (spl τ).2) := rfl
    rw [es]
    by_cases c : isBr x = true
    · rw [if_pos c]
      show 0 + (τ.length + 1) = τ.length + 1
      omega
    · rw [if_neg c]
      show (spl τ).1.length + 1 + (spl τ).2.length = τ.length + 1
      omega
theorem popW_len (P : Int32 → Bool) : ∀ (σ C : List Int32), (popW P σ C).2.length + (popW P σ C).1.length = C.length + σ.length
  | [], C => rfl
  | x :: σ, C => by
    have e : popW P (x :: σ) C = if P x = true then popW P σ (C ++ [x]) else (x :: σ, C) := rfl
    rw [e]
    by_cases c : P x = true
    · rw [if_pos c, popW_len P σ (C ++ [x]), List.length_append]
      show C.length + 1 + σ.length = C.length + (σ.length + 1)
      omega
    · rw [if_neg c]
end RH
