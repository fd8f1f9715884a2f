/-! PART 15: plain: the Model tells a part -/
set_option maxRecDepth 100000
theorem fx_FU {α : Type} (F : α → α) (z : α) : fx F z FU = F (fx F z (FU - 1)) := by
  have h : FU = (FU - 1) + 1 := by
    have := FU_gt (show 0 < 1000000 by decide)
    omega
  rw [h, fx_s, Nat.add_sub_cancel]
theorem lt12_60 {x : Int32} (h : ¬ x < 60) : ¬ x < 12 := by
  intro q
  apply h
  have q1 := Int32.lt_iff_toInt_lt.mp q
  apply Int32.lt_iff_toInt_lt.mpr
  have e1 : (12 : Int32).toInt = 12 := by decide
  have e2 : (60 : Int32).toInt = 60 := by decide
  omega
section RF
variable {n : Nat} {b : Nat → Nat} {q : Nat} {z0 : MS} {σ0 : List Int32}
theorem endp_len : ∀ (σ C : List Int32) (d : Nat), (endp σ C d).2.1.length + (endp σ C d).1.length = C.length + σ.length
  | [], C, d => rfl
  | x :: σ, C, d => by
    have e : endp (x :: σ) C d = if x < 60 then (x :: σ, C, d) else endp σ (C ++ [x]) (d - 1) := rfl
    rw [e]
    by_cases c : x < 60
    · rw [if_pos c]
    · rw [if_neg c, endp_len σ (C ++ [x]) (d - 1), List.length_append]
      show C.length + 1 + σ.length = C.length + (σ.length + 1)
      omega
theorem ends_L (dm : MS → Option MS) {i : Nat} : ∀ (m : Nat) (σ C : List Int32) (d : Nat) (z : MS), mQ n b q z0 i (σ ++ σ0) C d σ0.length z → σ.length < m → C.length + (σ ++ σ0).length ≤ 1600 →
    ∃ z', fx m_qEndsPart_L0 dm m z = some z' ∧ mQ n b q z0 i ((endp σ C d).1 ++ σ0) (endp σ C d).2.1 (endp σ C d).2.2 σ0.length z'
  | 0, σ, C, d, z, _, h, _ => absurd h (Nat.not_lt_zero _)
  | m + 1, σ, C, d, z, h, hm, hl => by
    have IH := ends_L dm (i := i) m
    rw [fx_s]
    generalize fx m_qEndsPart_L0 dm m = S at IH ⊢
    unfold m_qEndsPart_L0
    rw [if_pos h.2.1, h.2.2.2.1.2.2.1, h.2.2.2.1.2.2.2.2.2.1]
    cases σ with
    | nil =>
      rw [if_pos (by exact nI_le (Nat.le_refl _) (by rw [List.length_append] at hl; omega))]
      exact ⟨z, rfl, h⟩
    | cons x τ =>
      rw [List.length_append] at hl
      have hl : C.length + (τ.length + 1 + σ0.length) ≤ 1600 := hl
      obtain ⟨t1, t2, t3, t4⟩ := mQ.top (σ := τ ++ σ0) (x := x) h (by rw [List.length_append]; omega)
      have t1' : nI (x :: τ ++ σ0).length - 1 = nI (τ ++ σ0).length := by rw [← h.2.2.2.1.2.2.1]; exact t1
      rw [if_neg (nI_ge (show σ0.length < (x :: τ ++ σ0).length by rw [List.length_append]; show _ < τ.length + 1 + σ0.length; omega) (by rw [List.length_append]; show τ.length + 1 + σ0.length < _; omega)), t1', ck_t t2, t3, t4]
      have e : endp (x :: τ) C d = if x < 60 then (x :: τ, C, d) else endp τ (C ++ [x]) (d - 1) := rfl
      rw [e]
      by_cases c : x < 60
      · rw [if_pos c, if_pos c]
        exact ⟨z, rfl, h⟩
      · rw [if_neg c, if_neg c, nm_s]
        obtain ⟨z', q1, q2⟩ := mQ.dropo (σ := τ ++ σ0) (x := x) h (lt12_60 c) (by omega) (by rw [List.length_append]; omega)
        rw [q1, bnv_s]
        exact IH τ (C ++ [x]) (d - 1) z' q2 (by have hm : τ.length + 1 < m + 1 := hm; omega) (by rw [List.length_append, List.length_append]; show C.length + 1 + (τ.length + σ0.length) ≤ 1600; omega)
theorem m_qEndsPart_v {i : Nat} {σ C : List Int32} {d : Nat} {z : MS} (h : mQ n b q z0 i (σ ++ σ0) C d σ0.length z) (hl : C.length + (σ ++ σ0).length ≤ 1600) :
    ∃ z', m_qEndsPart z = some z' ∧ mQ n b q z0 i ((endp σ C d).1 ++ σ0) (endp σ C d).2.1 (endp σ C d).2.2 σ0.length z' :=
  ends_L _ FU σ C d z h (FU_gt (by rw [List.length_append] at hl; omega)) hl
theorem m_qEndsPart_f {z : MS} (h : ¬ mI z 5 = 0) : m_qEndsPart z = some z := by
  unfold m_qEndsPart
  rw [fx_FU]
  unfold m_qEndsPart_L0
  rw [if_neg h]
theorem m_asks_f {z : MS} (h : ¬ mI z 5 = 0) (w : Nat) : m_asks w z = some z := by
  unfold m_asks
  rw [if_neg h]
theorem m_asksSign_f {z : MS} (h : ¬ mI z 5 = 0) (s : Int32) : m_asksSign s z = some z := by
  unfold m_asksSign
  rw [if_neg h]
theorem m_qAsksWord_v {k : Nat} (hk : k < 13) (z : MS) : m_qAsksWord (nI k) z = bnv (m_asks (80 + k) z) fun y => some y := by
  unfold m_qAsksWord
  rcases (show k = 0 ∨ k = 1 ∨ k = 2 ∨ k = 3 ∨ k = 4 ∨ k = 5 ∨ k = 6 ∨ k = 7 ∨ k = 8 ∨ k = 9 ∨ k = 10 ∨ k = 11 ∨ k = 12 by omega) with rfl | rfl | rfl | rfl | rfl | rfl | rfl | rfl | rfl | rfl | rfl | rfl | rfl <;> rfl
theorem prtW_w : ∀ k, k < 12 → mW (80 + k) = (prtW.getD k []).map nI ∧ mN (80 + k) = (prtW.getD k []).length ∧ ∀ x, x ∈ prtW.getD k [] → x < 256 := by
  intro k hk
  rcases (show k = 0 ∨ k = 1 ∨ k = 2 ∨ k = 3 ∨ k = 4 ∨ k = 5 ∨ k = 6 ∨ k = 7 ∨ k = 8 ∨ k = 9 ∨ k = 10 ∨ k = 11 by omega) with rfl | rfl | rfl | rfl | rfl | rfl | rfl | rfl | rfl | rfl | rfl | rfl <;> exact ⟨rfl, rfl, by decide⟩
/-- what told parts leave: going on, or a fault -/
def qPo (n : Nat) (b : Nat → Nat) (q : Nat) (z0 : MS) (σ0 : List Int32) (i : Nat) (s' : QM) (z' : MS) : Prop :=
  (∃ a σ' C' d', s' = (1, sSk n b a, σ', C', d') ∧ mQ n b q z0 a (σ' ++ σ0) C' d' σ0.length z' ∧ C'.length + (σ' ++ σ0).length ≤ a ∧ i < a) ∨ ∃ k p, s' = qF k p ∧ mQF z0 k p 1601 z'
theorem hB_f {j : Nat} {W : List Nat} {v : List Nat × Nat} {e : Nat} (h : rWordJ n b j = .inr (v, e)) : hB n b j W = decide (v.1 = W) := by
  unfold hB
  rw [h]
theorem leafE {j : Nat} {σ C : List Int32} {d : Nat} (c1 : rB n b j ≠ 40) (c2 : hB n b j wMin = false) (c3 : hB n b j wMax = false) (c4 : byJ n b q j = false) :
    qStE n b q j σ C d = match prtJ n b q j with
      | some k => qE n b (sWe n b j) σ (C ++ [nI (40 + k)]) d
      | none => match rNumJ n b 0 9999 j with
        | .inl g => qF g.1 g.2
        | .inr (v, e) => qE n b e σ (C ++ [nI (1000 + v)]) d := by
  unfold qStE prtJ
  rw [if_neg c1]
  cases qw : rWordJ n b j with
  | inl g => rfl
  | inr p =>
    obtain ⟨v, e⟩ := p
    obtain ⟨-, w1, -, -, w2, -⟩ := rWordJ_r qw
    rw [hB_f qw] at c2 c3
    unfold byJ at c4
    rw [hB_f qw] at c4
    have c2 := of_decide_eq_false c2
    have c3 := of_decide_eq_false c3
    have c4 : ¬ (v.1 = wBy ∧ q = 2) := by
      rintro ⟨g1, g2⟩
      rw [decide_eq_true g1, decide_eq_true g2] at c4
      cases c4
    show (if v.1 = wMin ∨ v.1 = wMax then _ else if v.1 = wBy ∧ q = 2 then _ else match prtA q v.1 with
        | some k => qE n b e σ (C ++ [nI (40 + k)]) d
        | none => qF 1 j) = match prtA q v.1 with
      | some k => qE n b (sWe n b j) σ (C ++ [nI (40 + k)]) d
      | none => match rNumJ n b 0 9999 j with
        | .inl g => qF g.1 g.2
        | .inr (v, e) => qE n b e σ (C ++ [nI (1000 + v)]) d
    rw [if_neg (fun g => g.elim c2 c3), if_neg c4, w2]
    cases prtA q v.1 with
    | some k => rfl
    | none =>
      have hn : rNumJ n b 0 9999 j = .inl (1, j) := by
        unfold rNumJ
        rw [if_neg (fun g => by
          obtain ⟨g1, g2⟩ := isD_lt g.1
          have := of_decide_eq_true g2
          have := of_decide_eq_true w1
          omega)]
      rw [hn]
/-- the codes of a leaf, and what ends with it -/
theorem leaf_code {i j : Nat} {σ C : List Int32} {d : Nat} {z : MS} (h : mQ n b q z0 j (σ ++ σ0) C d σ0.length z) (hl : C.length + (σ ++ σ0).length < j) (hj : j ≤ 1600) (hi : i < j) (x : Int32) :
    Ok (bnv (m_qCode x z) fun z5 => bnv (m_qEndsPart z5) fun z6 => some z6) (qPo n b q z0 σ0 i (qE n b j σ (C ++ [x]) d)) := by
  obtain ⟨z1, q1, q2⟩ := h.code (by omega) x
  obtain ⟨z2, q3, q4⟩ := m_qEndsPart_v q2 (by rw [List.length_append (as := C)]; show C.length + 1 + _ ≤ 1600; omega)
  rw [q1, bnv_s, q3, bnv_s]
  have el := endp_len σ (C ++ [x]) d
  rw [List.length_append (as := C)] at el
  unfold qE
  generalize endp σ (C ++ [x]) d = E at q4 el
  obtain ⟨E1, E2, E3⟩ := E
  refine Ok.of (Or.inl ⟨j, E1, E2, E3, rfl, q4, ?_, hi⟩)
  have el : E2.length + E1.length = C.length + 1 + σ.length := el
  rw [List.length_append] at hl ⊢
  omega
theorem leaf_v {i j : Nat} {σ C : List Int32} {d : Nat} {z : MS} (hq : q < 3) (h : mQ n b q z0 j (σ ++ σ0) C d σ0.length z) (hl : C.length + (σ ++ σ0).length ≤ j) (hi : i ≤ j) (hs : sSk n b j = j) (c1 : rB n b j ≠ 40) (c2 : hB n b j wMin = false) (c3 : hB n b j wMax = false) (c4 : byJ n b q j = false) :
    Ok (bnd (m_qWordOf 0 12 z) fun r1 z2 =>
      jn (fun (z3 : MS) =>
        jn (fun (x1 : Int32) (z4 : MS) =>
          bnv (m_qCode x1 z4) fun z5 =>
          bnv (m_qEndsPart z5) fun z6 =>
          some z6) fun j237 =>
        if r1 = (-1) then
          bnd (m_number 0 9999 z3) fun r2 z7 =>
          j237 (1000 + r2) z7
        else
          j237 (40 + r1) z3) fun j212 =>
      if r1 = (-1) then
        j212 z2
      else
        bnv (m_qAsksWord r1 z2) fun z8 =>
        j212 z8) (qPo n b q z0 σ0 i (qStE n b q j σ C d)) := by
  have hn := h.1.1.1
  have hjn := h.1.2.2.1
  rw [leafE c1 c2 c3 c4, m_qWordOf_p h.1 hs h.2.1 h.2.2.1 hq, bnd_s]
  simp only [jn_s]
  cases qp : prtJ n b q j with
  | none =>
    rw [show oM1 none = -1 from rfl, if_pos rfl, if_pos rfl]
    have hN := m_number_v h.1 h.2.1 (lo := 0) (hi := 9999) (by decide) (by decide)
    rw [hs] at hN
    show Ok _ (qPo n b q z0 σ0 i (match rNumJ n b 0 9999 j with
        | .inl g => qF g.1 g.2
        | .inr (v, e) => qE n b e σ (C ++ [nI (1000 + v)]) d))
    rw [show (9999 : Int32) = nI 9999 from rfl, show (0 : Int32) = nI 0 from rfl]
    cases qn : rNumJ n b 0 9999 j with
    | inl g =>
      rw [qn] at hN
      obtain ⟨r, z', e1, ⟨e2, e3, e4, e5⟩, e6⟩ := hN
      rw [e1, bnd_s]
      have hF : mQF z0 g.1 g.2 1600 z' := ⟨e2, e3, ⟨e4, e5⟩, ⟨C.length, by rw [e6.1 94 (by decide) (by decide) (by decide) (by decide)]; exact h.2.2.2.1.1, by omega⟩, h.2.2.2.2.tr e6.qf⟩
      obtain ⟨z2, q1, q2⟩ := hF.code (by decide) (1000 + r)
      rw [q1, bnv_s, m_qEndsPart_f q2.ne, bnv_s]
      exact Ok.of (Or.inr ⟨_, _, rfl, q2⟩)
    | inr p =>
      obtain ⟨v, e⟩ := p
      rw [qn] at hN
      obtain ⟨-, -, -, r1, r2, r3, -⟩ := rNumJ_r qn
      rw [hN, bnd_s, show (1000 : Int32) = nI 1000 from rfl, nI_add]
      exact leaf_code (h.ed r3 (by rw [r1]; exact pv_de (by omega))) (by omega) (by omega) (by omega) _
  | some k =>
    unfold prtJ at qp
    cases qw : rWordJ n b j with
    | inl g => rw [qw] at qp; cases qp
    | inr p =>
      obtain ⟨v, e⟩ := p
      rw [qw] at qp
      have qp : prtA q v.1 = some k := qp
      obtain ⟨-, w1, -, -, w2, w3, w4⟩ := rWordJ_r qw
      obtain ⟨k1, -⟩ := prtA_w qp
      have kf : fndW prtW v.1 0 = some k := by
        unfold prtA at qp
        cases qf : fndW prtW v.1 0 with
        | none => rw [qf] at qp; cases qp
        | some k' =>
          rw [qf] at qp
          have qp : (if alOf q k' = true then some k' else none) = some k := qp
          by_cases c : alOf q k' = true
          · rw [if_pos c] at qp; exact qp
          · rw [if_neg c] at qp; cases qp
      obtain ⟨-, -, k3⟩ := fndW_lt _ _ _ _ kf
      rw [Nat.sub_zero] at k3
      obtain ⟨p1, p2, p3⟩ := prtW_w k k1
      have hne : ¬ nI k = -1 := by
        have : ∀ k, k < 12 → ¬ nI k = -1 := by decide
        exact this k k1
      have ht : hB n b j (prtW.getD k []) = true := by rw [hB_f qw, k3]; exact decide_eq_true rfl
      have ha := m_asks_v p1 p2 p3 h.1 h.2.1
      rw [hs, if_pos ht] at ha
      rw [show oM1 (some k) = nI k from rfl, if_neg hne, m_qAsksWord_v (by omega), ha, bnv_s, bnv_s, if_neg hne, show (40 : Int32) = nI 40 from rfl, nI_add]
      rw [w2] at w3 w4
      exact leaf_code (h.ed w4 (pv_we w3)) (by omega) (by omega) (by omega) _
end RF
