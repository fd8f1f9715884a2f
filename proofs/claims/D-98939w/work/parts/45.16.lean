/-! PART 16: plain: the Model tells openings and a part -/
set_option maxRecDepth 100000
noncomputable def qPK : MS → Option MS := fun z1 =>
    if (mI z1 5) = 0 then
      bnd (m_qWordOf 0 12 z1) fun r1 z2 =>
      jn (fun (z3 : MS) =>
        jn (fun (x1 : Int32) (z4 : MS) =>
          bnv (m_qCode x1 z4) fun z5 =>
          bnv (m_qEndsPart z5) fun z6 =>
          some z6) fun j237 =>
        if r1 = (-1) then
          bnd (m_number 0 9999 z3) fun r2 z7 =>
          j237 (1000 + r2) z7
        else
          j237 (40 + r1) z3) fun j212 =>
      if r1 = (-1) then
        j212 z2
      else
        bnv (m_qAsksWord r1 z2) fun z8 =>
        j212 z8
    else
      some z1
section RG
variable {n : Nat} {b : Nat → Nat} {q : Nat} {z0 : MS} {σ0 : List Int32}
theorem part_f (dm : Bool → MS → Option MS) (m : Nat) (x : Bool) {z : MS} (h : ¬ mI z 5 = 0) : fx (m_qPartTold_L2 qPK) dm (m + 1) x z = some z := by
  rw [fx_s]
  unfold m_qPartTold_L2
  cases x with
  | false =>
    rw [if_pos (by decide)]
    unfold qPK
    rw [if_neg h]
  | true =>
    rw [if_neg (by decide), if_neg h]
    unfold qPK
    rw [if_neg h]
theorem qPo.mono {i i' : Nat} {s : QM} {z : MS} (h : i ≤ i') (g : qPo n b q z0 σ0 i' s z) : qPo n b q z0 σ0 i s z := by
  rcases g with ⟨a, σ', C', d', g1, g2, g3, g4⟩ | g
  · exact Or.inl ⟨a, σ', C', d', g1, g2, g3, by omega⟩
  · exact Or.inr g
theorem nI_nm1 {k : Nat} (h : k < 2000) : ¬ nI k = -1 := by
  intro e
  have := congrArg Int32.toInt e
  rw [nI_toInt (by omega), show (-1 : Int32).toInt = -1 from by decide] at this
  omega
theorem part_L (hq : q < 3) (dm : Bool → MS → Option MS) : ∀ (m i : Nat) (σ C : List Int32) (d : Nat) (z : MS), mQ n b q z0 i (σ ++ σ0) C d σ0.length z → C.length + (σ ++ σ0).length ≤ i → n - i + 1 < m →
    ∃ s', rch n b q (0, i, σ, C, d) s' ∧ Ok (fx (m_qPartTold_L2 qPK) dm m true z) (qPo n b q z0 σ0 i s')
  | 0, i, σ, C, d, z, _, _, h => absurd h (Nat.not_lt_zero _)
  | m + 1, i, σ, C, d, z, h, hl, hm => by
    have hn := h.1.1.1
    have hin := h.1.2.2.1
    have hsk := h.sk
    have hj1 := sSk_ge n b i
    have hj2 := sSk_le b hin
    have hjj := sSk_id n b i
    have st : qSt n b q (0, i, σ, C, d) = qStE n b q (sSk n b i) σ C d := rfl
    obtain ⟨m, rfl⟩ : ∃ m', m = m' + 1 := ⟨m - 1, by omega⟩
    have IH0 := part_L hq dm (m + 1)
    have IHf := fun x {z} h => part_f dm m x (z := z) h
    have IHF := fun y => show fx (m_qPartTold_L2 qPK) dm (m + 1) false y = qPK y from rfl
    rw [fx_s]
    generalize fx (m_qPartTold_L2 qPK) dm (m + 1) = S at IH0 IHf IHF ⊢
    unfold m_qPartTold_L2
    rw [if_neg (show ¬ bI true = 0 by decide), if_pos h.2.1, m_look_v h.1, bnd_s]
    generalize wI z 2 (nI (sSk n b i)) = z1 at hsk
    generalize sSk n b i = j at hsk st hj1 hj2 hjj
    have hC : C.length ≤ 1600 := by omega
    have hS : (σ ++ σ0).length < 1700 := by omega
    have IH : ∀ i' σ' C' d' z', mQ n b q z0 i' (σ' ++ σ0) C' d' σ0.length z' → C'.length + (σ' ++ σ0).length ≤ i' → i < i' → rch n b q (0, i, σ, C, d) (0, i', σ', C', d') →
        ∃ s', rch n b q (0, i, σ, C, d) s' ∧ Ok (S true z') (qPo n b q z0 σ0 i s') := by
      intro i' σ' C' d' z' g1 g2 g3 g4
      have := g1.1.2.2.1
      obtain ⟨s', p1, p2⟩ := IH0 i' σ' C' d' z' g1 g2 (by omega)
      exact ⟨s', g4.tr p1, p2.mono (fun _ p => p.mono (by omega))⟩
    have FT : ∀ k p z', mQF z0 k p 1600 z' → rch n b q (0, i, σ, C, d) (qF k p) →
        ∃ s', rch n b q (0, i, σ, C, d) s' ∧ Ok (S true z') (qPo n b q z0 σ0 i s') := by
      intro k p z' g1 g2
      rw [IHf true g1.ne]
      exact ⟨_, g2, Ok.of (Or.inr ⟨k, p, rfl, g1.up (by decide)⟩)⟩
    rw [m_qWordOf_b hsk.1 hjj hsk.2.1 hsk.2.2.1 hq, bnd_s]
    simp only [jn_s, if_pos (show (-1 : Int32) = -1 from rfl)]
    by_cases c1 : rB n b j = 40
    · rw [if_pos (show rI n b j = 40 from (rI_eq h.1.1 j (s := 40) (by decide)).mpr c1), hsk.1.2.1]
      obtain ⟨o1, o2⟩ := hsk.opens hC hS 20 j
      unfold qStE at st
      rw [if_pos c1] at st
      obtain ⟨b1, b2⟩ := rB_lt c1 (by decide)
      by_cases c2 : d = 6
      · rw [o1 c2, bnv_s, nm_s]
        rw [if_pos c2] at st
        exact FT 4 j _ ((hsk.flt hC (by decide) j).int (by decide) _) (rch.st st)
      · obtain ⟨z2, o3, o4⟩ := o2 c2
        rw [o3, bnv_s, nm_s, o4.1.2.1, nI_1]
        rw [if_neg c2] at st
        exact IH (j + 1) (20 :: σ) C (d + 1) _ (o4.sg b1 (Nat.le_refl _) (by rw [b2]; decide)) (by rw [List.length_append] at hl ⊢; show C.length + (σ.length + 1 + σ0.length) ≤ j + 1; omega) (by omega) (rch.st st)
    rw [if_neg (show ¬ rI n b j = 40 from fun g => c1 ((rI_eq h.1.1 j (s := 40) (by decide)).mp g))]
    rw [m_isHere_j (w := 78) (W := wMin) rfl rfl (by decide) hsk.1 hjj hsk.2.1, bnd_s]
    -- behind min or max
    have two : ∀ (v : Int32) (z2 : MS), hB n b j wMin = true ∧ v = 21 ∨ (hB n b j wMin = false ∧ hB n b j wMax = true ∧ v = 22) → z2 = mEd z1 (sWe n b j) →
        ∃ s', rch n b q (0, i, σ, C, d) s' ∧ Ok (bnd (m_look z2) fun r7 z17 =>
            if r7 = 40 then
              (if mI z17 2 = -1 then bnv (m_asksSign 40 z17) fun z20 => S true z20 else bnv (m_qOpens v (mI z17 2) z17) fun z22 => bnv (m_asksSign 40 z22) fun z20 => S true z20)
            else bnv (m_asksSign 40 z17) fun z20 => S true z20) (qPo n b q z0 σ0 i s') := by
      rintro v z2 hv rfl
      have hW : ∃ w, rWordJ n b j = .inr (w, sWe n b j) ∧ j < sWe n b j ∧ sWe n b j ≤ n ∧ (w.1 = wMin ∧ v = 21 ∨ w.1 = wMax ∧ w.1 ≠ wMin ∧ v = 22) := by
        rcases hv with ⟨g1, g2⟩ | ⟨g0, g1, g2⟩
        · obtain ⟨w, e1, e2, -, -, e3, e4⟩ := hB_t g1
          exact ⟨w, e1, e3, e4, Or.inl ⟨e2, g2⟩⟩
        · obtain ⟨w, e1, e2, -, -, e3, e4⟩ := hB_t g1
          exact ⟨w, e1, e3, e4, Or.inr ⟨e2, by rw [e2]; decide, g2⟩⟩
      obtain ⟨w, w1, w2, w3, w4⟩ := hW
      unfold qStE at st
      rw [if_neg c1, w1] at st
      have st : qSt n b q (0, i, σ, C, d) = (if rB n b (sSk n b (sWe n b j)) = 40 then (if d = 6 then qF 4 (sSk n b (sWe n b j)) else (0, sSk n b (sWe n b j) + 1, v :: σ, C, d + 1)) else qF 1 (sSk n b (sWe n b j))) := by
        rw [st]
        show (if w.1 = wMin ∨ w.1 = wMax then _ else _) = _
        rcases w4 with ⟨g1, g2⟩ | ⟨g1, g0, g2⟩
        · rw [if_pos (Or.inl g1), if_pos g1, g2]
        · rw [if_pos (Or.inr g1), if_neg g0, g2]
      have h2 := hsk.ed w3 (pv_we w2)
      have h3 := h2.sk
      have k1 := sSk_ge n b (sWe n b j)
      have k2 := sSk_le b w3
      have k3 := sSk_id n b (sWe n b j)
      rw [m_look_v h2.1, bnd_s]
      generalize wI (mEd z1 (sWe n b j)) 2 (nI (sSk n b (sWe n b j))) = z3 at h3
      generalize sSk n b (sWe n b j) = j2 at h3 k1 k2 k3 st
      by_cases c2 : rB n b j2 = 40
      · rw [if_pos c2] at st
        rw [if_pos (show rI n b j2 = 40 from (rI_eq h.1.1 j2 (s := 40) (by decide)).mpr c2), h3.1.2.1, if_neg (nI_nm1 (by omega))]
        obtain ⟨o1, o2⟩ := h3.opens hC hS v j2
        obtain ⟨b1, b2⟩ := rB_lt c2 (by decide)
        by_cases c3 : d = 6
        · rw [if_pos c3] at st
          have hF := h3.flt hC (k := 4) (by decide) j2
          rw [o1 c3, bnv_s, m_asksSign_f hF.ne, bnv_s]
          exact FT 4 j2 _ hF (rch.st st)
        · rw [if_neg c3] at st
          obtain ⟨z4, o3, o4⟩ := o2 c3
          have ha := m_asksSign_v o4.1 o4.2.1 (s := 40) (by decide)
          rw [k3, if_pos c2] at ha
          rw [o3, bnv_s, show (40 : Int32) = nI 40 from rfl, ha, bnv_s]
          exact IH (j2 + 1) (v :: σ) C (d + 1) _ (o4.sg b1 (Nat.le_refl _) (by rw [b2]; decide)) (by rw [List.length_append] at hl ⊢; show C.length + (σ.length + 1 + σ0.length) ≤ j2 + 1; omega) (by omega) (rch.st st)
      · rw [if_neg c2] at st
        have ha := m_asksSign_v h3.1 h3.2.1 (s := 40) (by decide)
        rw [k3, if_neg c2] at ha
        rw [if_neg (show ¬ rI n b j2 = 40 from fun g => c2 ((rI_eq h.1.1 j2 (s := 40) (by decide)).mp g)), show (40 : Int32) = nI 40 from rfl, ha, bnv_s]
        have h4 : mQ n b q z0 j2 (σ ++ σ0) C d σ0.length (wI z3 2 (nI j2)) := by rw [← h3.1.2.1, wI_self]; exact h3
        exact FT 1 j2 _ (h4.flt hC (by decide) j2) (rch.st st)
    cases c2 : hB n b j wMin with
    | true =>
      have ht := m_takes_v (w := 78) (W := wMin) rfl rfl (by decide) hsk.1 hsk.2.1
      rw [hjj, c2, if_pos rfl] at ht
      rw [if_neg (show ¬ bI true = 0 by decide), ht, bnd_s]
      simp only [if_neg (show ¬ bI true = 0 by decide)]
      exact two 21 _ (Or.inl ⟨c2, rfl⟩) rfl
    | false =>
    rw [if_pos (show bI false = 0 by decide), m_isHere_j (w := 79) (W := wMax) rfl rfl (by decide) hsk.1 hjj hsk.2.1, bnd_s]
    cases c3 : hB n b j wMax with
    | true =>
      have ht := m_takes_v (w := 78) (W := wMin) rfl rfl (by decide) hsk.1 hsk.2.1
      rw [hjj, c2, if_neg (by decide), ← hsk.1.2.1, wI_self] at ht
      have ha := m_asks_v (w := 79) (W := wMax) rfl rfl (by decide) hsk.1 hsk.2.1
      rw [hjj, c3, if_pos rfl] at ha
      rw [if_neg (show ¬ bI true = 0 by decide), ht, bnd_s]
      simp only [if_pos (show bI false = 0 by decide)]
      rw [ha, bnv_s]
      exact two 22 _ (Or.inr ⟨c2, c3, rfl⟩) rfl
    | false =>
    rw [if_pos (show bI false = 0 by decide)]
    cases c4 : byJ n b q j with
    | true =>
      have c4' := c4
      unfold byJ at c4'
      rw [Bool.and_eq_true] at c4'
      obtain ⟨g1, g2⟩ := c4'
      have g2 := of_decide_eq_true g2
      obtain ⟨w, e1, e2, -, -, e3, e4⟩ := hB_t g1
      unfold qStE at st
      rw [if_neg c1, e1] at st
      have st : qSt n b q (0, i, σ, C, d) = (if d = 6 then qF 4 j else (0, sWe n b j, 60 :: σ, C, d + 1)) := by
        rw [st]
        show (if w.1 = wMin ∨ w.1 = wMax then _ else if w.1 = wBy ∧ q = 2 then _ else _) = _
        rw [if_neg (by rw [e2]; decide), if_pos ⟨e2, g2⟩]
      simp only [if_pos rfl, if_true]
      rw [if_neg (show ¬ (12 : Int32) = -1 by decide), show (60 : Int32) + 12 - 12 = 60 by decide, hsk.1.2.1]
      obtain ⟨o1, o2⟩ := hsk.opens hC hS 60 j
      by_cases c5 : d = 6
      · rw [if_pos c5] at st
        have hF := hsk.flt hC (k := 4) (by decide) j
        rw [o1 c5, bnv_s, show (12 : Int32) = nI 12 from rfl, m_qAsksWord_v (by decide), m_asks_f hF.ne, bnv_s, bnv_s]
        exact FT 4 j _ hF (rch.st st)
      · rw [if_neg c5] at st
        obtain ⟨z4, o3, o4⟩ := o2 c5
        have ha := m_asks_v (w := 92) (W := wBy) rfl rfl (by decide) o4.1 o4.2.1
        rw [hjj, g1, if_pos rfl] at ha
        rw [o3, bnv_s, show (12 : Int32) = nI 12 from rfl, m_qAsksWord_v (by decide), ha, bnv_s, bnv_s]
        exact IH (sWe n b j) (60 :: σ) C (d + 1) _ (o4.ed e4 (pv_we e3)) (by rw [List.length_append] at hl ⊢; show C.length + (σ.length + 1 + σ0.length) ≤ _; omega) (by omega) (rch.st st)
    | false =>
      simp only [if_neg (show ¬ (false = true) by decide), if_true]
      refine ⟨_, rch.st st, ?_⟩
      rw [IHF]
      unfold qPK
      rw [if_pos hsk.2.1]
      exact leaf_v hq hsk (by omega) hj1 hjj c1 c2 c3 c4
theorem m_qPartTold_v (hq : q < 3) {i : Nat} {σ C : List Int32} {d : Nat} {z : MS} (h : mQ n b q z0 i (σ ++ σ0) C d σ0.length z) (hl : C.length + (σ ++ σ0).length ≤ i) :
    ∃ s', rch n b q (0, i, σ, C, d) s' ∧ Ok (m_qPartTold z) (qPo n b q z0 σ0 i s') :=
  part_L hq (fun _ _ => none) FU i σ C d z h hl (FU_gt (by have := h.1.1.1; omega))
end RG
