/-! PART 18: plain: the Model goes on behind a part -/
set_option maxRecDepth 100000
noncomputable def qGK : MS → Option (Bool × MS) := fun z1 =>
    bnd (m_takesSign 42 z1) fun r1 z2 =>
    jn (fun (z3 : MS) =>
      ck (inb ((mI z3 2) - 1) (mN 0)) <|
      jn (fun (x1 : Int32) (z4 : MS) =>
        jn (fun (z5 : MS) =>
          ck (inb (mI z5 96) (mN 95)) <|
          nm (wA z5 95 (Int32.toNatClampNeg (mI z5 96)) x1) fun z6 =>
          nm (wI z6 96 ((mI z6 96) + 1)) fun z7 =>
          some (true, z7)) fun k185 =>
        fx (m_qGoesOn_L162 k185) (fun _ => none) FU  z4) fun j161 =>
      if (mA z3 0 (Int32.toNatClampNeg ((mI z3 2) - 1))) = 42 then
        j161 3 z3
      else
        j161 4 z3) fun j140 =>
    if (bI r1) = 0 then
      bnd (m_takesSign 47 z2) fun r4 z13 =>
      if (bI r4) = 0 then
        bnd (m_takesSign 43 z13) fun r5 z14 =>
        jn (fun (z15 : MS) =>
          ck (inb ((mI z15 2) - 1) (mN 0)) <|
          jn (fun (x2 : Int32) (z16 : MS) =>
            jn (fun (z17 : MS) =>
              ck (inb (mI z17 96) (mN 95)) <|
              nm (wA z17 95 (Int32.toNatClampNeg (mI z17 96)) x2) fun z18 =>
              nm (wI z18 96 ((mI z18 96) + 1)) fun z19 =>
              some (true, z19)) fun k286 =>
            fx (m_qGoesOn_L247 k286) (fun _ => none) FU  z16) fun j246 =>
          if (mA z15 0 (Int32.toNatClampNeg ((mI z15 2) - 1))) = 43 then
            j246 1 z15
          else
            j246 2 z15) fun j225 =>
        if (bI r5) = 0 then
          bnd (m_takesSign 45 z14) fun r10 z27 =>
          if (bI r10) = 0 then
            bnd (m_qBracket z27) fun r11 z28 =>
            jn (fun (z29 : MS) =>
              bnv (m_asksSign 44 z29) fun z30 =>
              if (mI z30 5) = 0 then
                bnv (m_qDropsToBracket z30) fun z31 =>
                ck (inb ((mI z31 96) - 1) (mN 95)) <|
                ck (inb ((mI z31 96) - 1) (mN 95)) <|
                nm (wA z31 95 (Int32.toNatClampNeg ((mI z31 96) - 1)) ((mA z31 95 (Int32.toNatClampNeg ((mI z31 96) - 1))) + 2)) fun z32 =>
                some (true, z32)
              else
                some (false, z30)) fun j326 =>
            if r11 = 21 then
              j326 z28
            else
              bnd (m_qBracket z28) fun r12 z33 =>
              if r12 = 22 then
                j326 z33
              else
                bnd (m_qBracket z33) fun r13 z34 =>
                if r13 = (-1) then
                  some (false, z34)
                else
                  if (mI z34 5) = 0 then
                    bnv (m_fail 1 (mI z34 2) z34) fun z35 =>
                    some (false, z35)
                  else
                    some (false, z34)
          else
            j225 z27
        else
          j225 z14
      else
        j140 z13
    else
      j140 z2
section RI
variable {n : Nat} {b : Nat → Nat} {q : Nat} {z0 : MS} {σ0 : List Int32}
/-- what going on leaves -/
def qGo (n : Nat) (b : Nat → Nat) (q : Nat) (z0 : MS) (σ0 : List Int32) (a : Nat) (s' : QM) (r : Bool × MS) : Prop :=
  (r.1 = true ∧ ∃ i' σ' C' d', s' = (0, i', σ', C', d') ∧ mQ n b q z0 i' (σ' ++ σ0) C' d' σ0.length r.2 ∧ C'.length + (σ' ++ σ0).length ≤ i' ∧ a < i') ∨
  (r.1 = false ∧ ∃ j σ' C' d', s' = (2, j, [], C' ++ σ', d') ∧ mQ n b q z0 j (σ' ++ σ0) C' d' σ0.length r.2 ∧ C'.length + (σ' ++ σ0).length ≤ j) ∨
  (r.1 = false ∧ ∃ k p, s' = qF k p ∧ mQF z0 k p 1601 r.2)
theorem spl_hd : ∀ (σ : List Int32) {x : Int32} {τ : List Int32}, (spl σ).2 = x :: τ → isBr x = true
  | [], x, τ, h => by cases h
  | y :: σ, x, τ, h => by
    have es : spl (y :: σ) = if isBr y = true then ([], y :: σ) else (y :: (spl σ).1, (spl σ).2) := rfl
    rw [es] at h
    by_cases c : isBr y = true
    · rw [if_pos c] at h
      cases h
      exact c
    · rw [if_neg c] at h
      exact spl_hd σ h
theorem spl_no : ∀ (σ : List Int32), (spl σ).2 = [] → (spl σ).1 = σ
  | [], _ => rfl
  | y :: σ, h => by
    have es : spl (y :: σ) = if isBr y = true then ([], y :: σ) else (y :: (spl σ).1, (spl σ).2) := rfl
    rw [es] at h ⊢
    by_cases c : isBr y = true
    · rw [if_pos c] at h
      cases h
    · rw [if_neg c] at h ⊢
      show y :: (spl σ).1 = y :: σ
      rw [spl_no σ h]
theorem goes2 (h0 : ∀ x τ, σ0 = x :: τ → isOp x = false) {a j : Nat} {σ C : List Int32} {d : Nat} {z : MS} (h : mQ n b q z0 j (σ ++ σ0) C d σ0.length z) (hl : C.length + (σ ++ σ0).length ≤ j) (ha : a ≤ j) (hs : sSk n b j = j) :
    Ok (qGK z) (qGo n b q z0 σ0 a (qStG2 (rB n b j) j σ C d)) := by
  have hn := h.1.1.1
  have hjn := h.1.2.2.1
  have zz : wI z 2 (nI j) = z := by rw [← h.1.2.1, wI_self]
  have hl6 : C.length + (σ ++ σ0).length ≤ 1600 := by omega
  have hS : σ.length < 1700 := by rw [List.length_append] at hl; omega
  have sg : ∀ s, s < 256 → m_takesSign (nI s) z = some (decide (rB n b j = s), if rB n b j = s then wI z 2 (nI (j + 1)) else z) := by
    intro s hs'
    have := m_takesSign_v h.1 h.2.1 hs'
    rw [hs, zz] at this
    exact this
  -- behind a sign
  have nx : ∀ s, rB n b j = s → s < 256 → (isL s = false ∧ isD s = false) → j < n ∧ mQ n b q z0 (j + 1) (σ ++ σ0) C d σ0.length (wI z 2 (nI (j + 1))) ∧ inb (mI (wI z 2 (nI (j + 1))) 2 - 1) (mN 0) = true ∧ mA (wI z 2 (nI (j + 1))) 0 (mI (wI z 2 (nI (j + 1))) 2 - 1).toNatClampNeg = nI s := by
    intro s e1 e2 e3
    obtain ⟨b1, b2⟩ := rB_lt e1 e2
    refine ⟨b1, h.sg b1 (Nat.le_refl _) (by rw [b2]; exact e3), ?_, ?_⟩
    · rw [mI_eq, nI_pred]
      exact inb_nI (by show _ < 1600; omega) (by decide)
    · rw [mI_eq, nI_pred, nI_c (show j < 2 ^ 31 by omega)]
      show mA z 0 j = _
      rw [(h.1.1.2.1 j b1).2, b2]
  have pushed : ∀ (x : Int32) (P : Int32 → Bool) (z5 : MS), x < 12 → mQ n b q z0 (j + 1) ((popW P σ C).1 ++ σ0) (popW P σ C).2 d σ0.length z5 →
      Ok (ck (inb (mI z5 96) (mN 95)) <|
          nm (wA z5 95 (Int32.toNatClampNeg (mI z5 96)) x) fun z6 =>
          nm (wI z6 96 ((mI z6 96) + 1)) fun z7 =>
          some (true, z7)) (qGo n b q z0 σ0 a (0, j + 1, x :: (popW P σ C).1, (popW P σ C).2, d)) := by
    intro x P z5 hx g
    have pl := popW_len P σ C
    have gl : ((popW P σ C).1 ++ σ0).length ≤ 1600 := by rw [List.length_append] at hl6 ⊢; omega
    rw [g.2.2.2.1.2.2.1, ck_t (inb_nI (by show _ < 1700; omega) (by decide)), nm_s, nm_s, nI_c (show ((popW P σ C).1 ++ σ0).length < 2 ^ 31 by omega), mI_wA, g.2.2.2.1.2.2.1, nI_1]
    refine Ok.of (Or.inl ⟨rfl, j + 1, x :: (popW P σ C).1, _, d, rfl, g.push (by omega) x rfl hx, ?_, by omega⟩)
    rw [List.length_append] at hl ⊢
    show (popW P σ C).2.length + ((popW P σ C).1.length + 1 + σ0.length) ≤ j + 1
    omega
  have hM : ∀ x τ, σ0 = x :: τ → isMu x = false := fun x τ e => isMu_op (h0 x τ e)
  have mul : ∀ (x : Int32), x < 12 → j < n → mQ n b q z0 (j + 1) (σ ++ σ0) C d σ0.length (wI z 2 (nI (j + 1))) → Ok (fx (m_qGoesOn_L162 (fun (z5 : MS) =>
          ck (inb (mI z5 96) (mN 95)) <|
          nm (wA z5 95 (Int32.toNatClampNeg (mI z5 96)) x) fun z6 =>
          nm (wI z6 96 ((mI z6 96) + 1)) fun z7 =>
          some (true, z7))) (fun _ => none) FU (wI z 2 (nI (j + 1)))) (qGo n b q z0 σ0 a (0, j + 1, x :: (popW isMu σ C).1, (popW isMu σ C).2, d)) := by
    intro x hx hj1 g
    obtain ⟨z', q1, q2⟩ := pop_M _ (fun _ => none) hM FU σ C d _ g hl6 (FU_gt (by omega))
    rw [q1]
    exact pushed x isMu z' hx q2
  have add : ∀ (x : Int32), x < 12 → j < n → mQ n b q z0 (j + 1) (σ ++ σ0) C d σ0.length (wI z 2 (nI (j + 1))) → Ok (fx (m_qGoesOn_L247 (fun (z5 : MS) =>
          ck (inb (mI z5 96) (mN 95)) <|
          nm (wA z5 95 (Int32.toNatClampNeg (mI z5 96)) x) fun z6 =>
          nm (wI z6 96 ((mI z6 96) + 1)) fun z7 =>
          some (true, z7))) (fun _ => none) FU (wI z 2 (nI (j + 1)))) (qGo n b q z0 σ0 a (0, j + 1, x :: (popW isOp σ C).1, (popW isOp σ C).2, d)) := by
    intro x hx hj1 g
    obtain ⟨z', q1, q2⟩ := pop_A _ (fun _ => none) h0 FU σ C d _ g hl6 (FU_gt (by omega))
    rw [q1]
    exact pushed x isOp z' hx q2
  unfold qGK qStG2
  simp only [jn_s]
  rw [show (42 : Int32) = nI 42 from rfl, show (47 : Int32) = nI 47 from rfl, show (43 : Int32) = nI 43 from rfl, show (45 : Int32) = nI 45 from rfl, show (44 : Int32) = nI 44 from rfl, sg 42 (by decide), bnd_s]
  by_cases c42 : rB n b j = 42
  · obtain ⟨n1, n2, n3, n4⟩ := nx 42 c42 (by decide) (by decide)
    rw [decide_eq_true c42, if_neg (show ¬ bI true = 0 by decide), if_pos (Or.inl c42), if_pos c42]
    simp only [if_pos c42]
    rw [ck_t n3, n4, if_pos rfl]
    exact mul 3 (by decide) n1 n2
  rw [decide_eq_false c42, if_pos (show bI false = 0 by decide)]
  simp only [if_neg c42]
  rw [sg 47 (by decide), bnd_s]
  by_cases c47 : rB n b j = 47
  · obtain ⟨n1, n2, n3, n4⟩ := nx 47 c47 (by decide) (by decide)
    rw [decide_eq_true c47, if_neg (show ¬ bI true = 0 by decide), if_pos (Or.inr c47)]
    simp only [if_pos c47]
    rw [ck_t n3, n4, if_neg (show ¬ nI 47 = nI 42 by decide)]
    exact mul 4 (by decide) n1 n2
  rw [decide_eq_false c47, if_pos (show bI false = 0 by decide), if_neg (show ¬ (rB n b j = 42 ∨ rB n b j = 47) from fun g => g.elim c42 c47)]
  simp only [if_neg c47]
  rw [sg 43 (by decide), bnd_s]
  by_cases c43 : rB n b j = 43
  · obtain ⟨n1, n2, n3, n4⟩ := nx 43 c43 (by decide) (by decide)
    rw [decide_eq_true c43, if_neg (show ¬ bI true = 0 by decide), if_pos (Or.inl c43), if_pos c43]
    simp only [if_pos c43]
    rw [ck_t n3, n4, if_pos rfl]
    exact add 1 (by decide) n1 n2
  rw [decide_eq_false c43, if_pos (show bI false = 0 by decide)]
  simp only [if_neg c43]
  rw [sg 45 (by decide), bnd_s]
  by_cases c45 : rB n b j = 45
  · obtain ⟨n1, n2, n3, n4⟩ := nx 45 c45 (by decide) (by decide)
    rw [decide_eq_true c45, if_neg (show ¬ bI true = 0 by decide), if_pos (Or.inr c45)]
    simp only [if_pos c45]
    rw [ck_t n3, n4, if_neg (show ¬ nI 45 = nI 43 by decide)]
    exact add 2 (by decide) n1 n2
  rw [decide_eq_false c45, if_pos (show bI false = 0 by decide), if_neg (show ¬ (rB n b j = 43 ∨ rB n b j = 45) from fun g => g.elim c43 c45)]
  simp only [if_neg c45]
  rw [m_qBracket_v h (by omega), bnd_s]
  have sl := spl_len σ
  -- a comma
  have comma : ∀ x τ, (spl σ).2 = x :: τ → (x = 21 ∨ x = 22) →
      Ok (bnv (m_asksSign (nI 44) z) fun z30 =>
              if (mI z30 5) = 0 then
                bnv (m_qDropsToBracket z30) fun z31 =>
                ck (inb ((mI z31 96) - 1) (mN 95)) <|
                ck (inb ((mI z31 96) - 1) (mN 95)) <|
                nm (wA z31 95 (Int32.toNatClampNeg ((mI z31 96) - 1)) ((mA z31 95 (Int32.toNatClampNeg ((mI z31 96) - 1))) + 2)) fun z32 =>
                some (true, z32)
              else
                some (false, z30)) (qGo n b q z0 σ0 a (if rB n b j = 44 then (0, j + 1, (x + 2) :: τ, C ++ (spl σ).1, d) else qF 1 j)) := by
    intro x τ e1 e2
    have hA := m_asksSign_v h.1 h.2.1 (s := 44) (by decide)
    rw [hs, zz] at hA
    rw [hA, bnv_s]
    by_cases c : rB n b j = 44
    · obtain ⟨n1, n2, -, -⟩ := nx 44 c (by decide) (by decide)
      simp only [if_pos c]
      rw [if_pos n2.2.1]
      obtain ⟨z31, d1, d2⟩ := m_qDropsToBracket_v n2 hl6
      rw [e1] at d2 sl
      rw [List.length_append] at hl hl6
      have sl : (spl σ).1.length + (τ.length + 1) = σ.length := sl
      obtain ⟨t1, t2, t3, t4⟩ := mQ.top (σ := τ ++ σ0) (x := x) d2 (by rw [List.length_append]; omega)
      rw [d1, bnv_s, t1, ck_t t2, ck_t t2, nm_s, t3, t4]
      refine Ok.of (Or.inl ⟨rfl, j + 1, (x + 2) :: τ, C ++ (spl σ).1, d, rfl, mQ.put (σ := τ ++ σ0) (x := x) d2 (x + 2) ?_, ?_, by omega⟩)
      · rcases e2 with rfl | rfl <;> decide
      · rw [List.length_append, List.length_append]
        show C.length + (spl σ).1.length + (τ.length + 1 + σ0.length) ≤ j + 1
        omega
    · simp only [if_neg c]
      have hF := h.flt (by omega) (k := 1) (by decide) j
      rw [if_neg hF.ne]
      exact Ok.of (Or.inr (Or.inr ⟨rfl, 1, j, rfl, hF.up (by decide)⟩))
  unfold brI
  cases e : (spl σ).2 with
  | nil =>
    show Ok (if (-1 : Int32) = 21 then _ else _) _
    rw [if_neg (by decide), m_qBracket_v h (by omega), bnd_s]
    unfold brI
    rw [e]
    show Ok (if (-1 : Int32) = 22 then _ else _) _
    rw [if_neg (by decide), m_qBracket_v h (by omega), bnd_s]
    unfold brI
    rw [e]
    show Ok (if (-1 : Int32) = -1 then _ else _) _
    rw [if_pos rfl]
    exact Ok.of (Or.inr (Or.inl ⟨rfl, j, σ, C, d, rfl, h, hl⟩))
  | cons x τ =>
    have hb := spl_hd σ e
    show Ok (if x = 21 then _ else _) (qGo n b q z0 σ0 a (if x = 21 ∨ x = 22 then (if rB n b j = 44 then (0, j + 1, (x + 2) :: τ, C ++ (spl σ).1, d) else qF 1 j) else qF 1 j))
    by_cases c1 : x = 21
    · rw [if_pos c1, if_pos (Or.inl c1)]
      exact comma x τ e (Or.inl c1)
    · rw [if_neg c1, m_qBracket_v h (by omega), bnd_s]
      unfold brI
      rw [e]
      show Ok (if x = 22 then _ else _) _
      by_cases c2 : x = 22
      · rw [if_pos c2, if_pos (Or.inr c2)]
        exact comma x τ e (Or.inr c2)
      · rw [if_neg c2, m_qBracket_v h (by omega), bnd_s, if_neg (show ¬ (x = 21 ∨ x = 22) from fun g => g.elim c1 c2)]
        unfold brI
        rw [e]
        show Ok (if x = -1 then _ else _) _
        rw [if_neg (by rintro rfl; exact absurd hb (by decide)), if_pos h.2.1, h.1.2.1, show (1 : Int32) = nI 1 from rfl, m_fail_v h.2.1, bnv_s]
        exact Ok.of (Or.inr (Or.inr ⟨rfl, 1, j, rfl, (h.flt (by omega) (by decide) j).up (by decide)⟩))
end RI
