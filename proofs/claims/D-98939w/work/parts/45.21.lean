/-! PART 21: plain: no more codes than bytes; the Model's facts -/
set_option maxRecDepth 100000
def rPc (f : Nat → RS (List Int32)) : Prop := ∀ i c e, f i = .inr (c, e) → i + c.length ≤ e
section RPC
variable {n : Nat} {b : Nat → Nat}
theorem rChain_pc {part : Nat → RS (List Int32)} (hp : rPc part) {op : Nat → Option Int32} : ∀ (f : Nat) (c : List Int32) (i : Nat) (c2 : List Int32) (e : Nat), rChain n b part op f c i = .inr (c2, e) → i + c2.length ≤ e + c.length
  | 0, c, i, c2, e, h => by
    cases h
    exact Nat.le_refl _
  | f + 1, c, i, c2, e, h => by
    have h : (match op (rB n b (sSk n b i)) with
      | none => .inr (c, sSk n b i)
      | some o => sbd (part (sSk n b i + 1)) fun c2 e => rChain n b part op f (c ++ c2 ++ [o]) e) = (.inr (c2, e) : RS (List Int32)) := h
    have h1 := sSk_ge n b i
    cases q : op (rB n b (sSk n b i)) with
    | none =>
      rw [q] at h
      cases h
      omega
    | some o =>
      rw [q] at h
      obtain ⟨c3, e3, q1, q2⟩ := sbd_inr h
      have q3 := hp _ _ _ q1
      have q6 := rChain_pc hp f _ e3 c2 e q2
      rw [List.length_append, List.length_append] at q6
      have q6 : e3 + c2.length ≤ e + (c.length + c3.length + 1) := q6
      omega
theorem rProd_pc {atom : Nat → RS (List Int32)} (hp : rPc atom) : rPc (rProd n b atom) := by
  intro i c e h
  obtain ⟨c3, e3, q1, q2⟩ := sbd_inr h
  have q3 := hp _ _ _ q1
  have := rChain_pc hp _ _ _ _ _ q2
  omega
theorem rSumO_pc {atom : Nat → RS (List Int32)} (hp : rPc atom) : rPc (rSumO n b atom) := by
  intro i c e h
  obtain ⟨c3, e3, q1, q2⟩ := sbd_inr h
  have q3 := rProd_pc hp _ _ _ q1
  have := rChain_pc (rProd_pc hp) _ _ _ _ _ q2
  omega
theorem rWithin_pc {dp : Bool} {sum : Nat → RS (List Int32)} (hp : rPc sum) {x j : Nat} {c : List Int32} {e : Nat} (h : rWithin n b dp sum x j = .inr (c, e)) : j + c.length ≤ e := by
  unfold rWithin at h
  by_cases c1 : rB n b j = 40
  · rw [if_pos c1] at h
    by_cases c2 : dp = false
    · rw [if_pos c2] at h; cases h
    · rw [if_neg c2] at h
      obtain ⟨c3, e3, q1, q2⟩ := sbd_inr h
      have q3 := hp _ _ _ q1
      by_cases c4 : x = 0
      · rw [if_pos c4] at q2
        obtain ⟨c5, e5, q6, q7⟩ := sbd_inr q2
        have q8 := rMust_r (by decide) q6
        cases q7
        omega
      · rw [if_neg c4] at q2
        obtain ⟨c5, e5, q6, q7⟩ := sbd_inr q2
        have q8 := rMust_r (by decide) q6
        obtain ⟨c6, e6, q9, q10⟩ := sbd_inr q7
        have q11 := hp _ _ _ q9
        obtain ⟨c7, e7, q13, q14⟩ := sbd_inr q10
        have q15 := rMust_r (by decide) q13
        cases q14
        rw [List.length_append, List.length_append]
        show j + (c3.length + c6.length + 1) ≤ _
        omega
  · rw [if_neg c1] at h; cases h
theorem rAtomB_pc {q : Nat} {dp : Bool} {sum atom : Nat → RS (List Int32)} (hp : rPc sum) (ha : rPc atom) {i : Nat} {c : List Int32} {e : Nat} (h : rAtomB n b q dp sum atom (sSk n b i) = .inr (c, e)) : i + c.length ≤ e := by
  have hj := sSk_ge n b i
  generalize sSk n b i = j at h hj
  unfold rAtomB at h
  by_cases c1 : rB n b j = 40
  · rw [if_pos c1] at h
    have := rWithin_pc hp h
    omega
  rw [if_neg c1] at h
  by_cases c2 : isD (rB n b j) = true
  · rw [if_pos c2] at h
    obtain ⟨v, e3, q1, q2⟩ := sbd_inr h
    have := rNumJ_r q1
    cases q2
    show i + 1 ≤ _
    omega
  rw [if_neg c2] at h
  obtain ⟨w, e3, q1, q2⟩ := sbd_inr h
  obtain ⟨q3, -, -, q4, q5, q6, q7⟩ := rWordJ_r q1
  cases q8 : prtA q w.1 with
  | some k =>
    rw [q8] at q2
    cases q2
    show i + 1 ≤ _
    omega
  | none =>
    rw [q8] at q2
    have q2 : rAtomW n b q dp sum atom w.1 w.2 e3 = .inr (c, e) := q2
    unfold rAtomW at q2
    by_cases d1 : w.1 = wBy ∧ q = 2
    · rw [if_pos d1] at q2
      by_cases d2 : dp = false
      · rw [if_pos d2] at q2; cases q2
      · rw [if_neg d2] at q2
        obtain ⟨c5, e5, q9, q10⟩ := sbd_inr q2
        have := ha _ _ _ q9
        cases q10
        rw [List.length_append]
        show i + (c5.length + 1) ≤ _
        omega
    · rw [if_neg d1] at q2
      have := sSk_ge n b e3
      by_cases d2 : w.1 = wMin
      · rw [if_pos d2] at q2
        have := rWithin_pc hp q2
        omega
      · rw [if_neg d2] at q2
        by_cases d3 : w.1 = wMax
        · rw [if_pos d3] at q2
          have := rWithin_pc hp q2
          omega
        · rw [if_neg d3] at q2; cases q2
theorem rBad_pc : rPc rBad := fun i c e h => by cases h
theorem rAtom_pc (q : Nat) : ∀ r, rPc (rAtom n b q r)
  | 0 => fun i c e h => rAtomB_pc rBad_pc rBad_pc h
  | r + 1 => fun i c e h => rAtomB_pc (rSumO_pc (rAtom_pc q r)) (rAtom_pc q r) h
theorem rSum_pc (q r : Nat) : rPc (rSum n b q r) := rSumO_pc (rAtom_pc q r)
theorem rCmp_pc {sum : Nat → RS (List Int32)} (hp : rPc sum) {j : Nat} {c : List Int32} {e : Nat} (h : rCmp n b sum j = .inr (c, e)) : j + c.length ≤ e := by
  obtain ⟨c1, e1, q1, q2⟩ := sbd_inr h
  have q3 := hp _ _ _ q1
  have q5 := sSk_ge n b e1
  by_cases d : rB n b (sSk n b e1) = 60 ∨ rB n b (sSk n b e1) = 61 ∨ rB n b (sSk n b e1) = 62
  · rw [if_pos d] at q2
    obtain ⟨c5, e5, q6, q7⟩ := sbd_inr q2
    have q8 := hp _ _ _ q6
    cases q7
    rw [List.length_append, List.length_append]
    show j + (c1.length + c5.length + 1) ≤ _
    omega
  · rw [if_neg d] at q2; cases q2
end RPC
section RK
variable {n : Nat} {b : Nat → Nat} {q : Nat} {z0 : MS}
def rFc (n : Nat) (b : Nat → Nat) (q d j : Nat) : RS (List Int32) := if hB n b j wAll = true then .inr ([13], sWe n b j) else rCmp n b (rSum n b q (6 - d)) j
theorem m_qFact_v (hq : q < 3) {j : Nat} {σ C : List Int32} {d bs : Nat} {z : MS} (h0 : ∀ x τ, σ = x :: τ → isOp x = false) (h : mQ n b q z0 j σ C d bs z) (hl : C.length + σ.length ≤ j) (hs : sSk n b j = j) :
    match rFc n b q d j with
    | .inl g => ∃ z', m_qFact z = some z' ∧ mQF z0 g.1 g.2 1602 z'
    | .inr (c, e) => ∃ z', m_qFact z = some z' ∧ mQ n b q z0 e σ (C ++ c) d bs z' ∧ (C ++ c).length + σ.length ≤ e ∧ j < e := by
  have hn := h.1.1.1
  have hjn := h.1.2.2.1
  have ht := m_takes_v (w := 77) (W := wAll) rfl rfl (by decide) h.1 h.2.1
  rw [hs] at ht
  unfold m_qFact rFc
  rw [ht, bnd_s]
  cases c1 : hB n b j wAll with
  | true =>
    obtain ⟨-, -, -, -, -, w1, w2⟩ := hB_t c1
    rw [if_pos rfl, if_pos rfl, if_neg (show ¬ bI true = 0 by decide)]
    obtain ⟨z', q1, q2⟩ := (h.ed w2 (pv_we w1)).code (by omega) 13
    refine ⟨z', by rw [q1, bnv_s], q2, ?_, w1⟩
    rw [List.length_append]
    show C.length + 1 + σ.length ≤ _
    omega
  | false =>
  rw [if_pos (show bI false = 0 by decide), if_neg (show ¬ (false = true) by decide), if_neg (show ¬ (false = true) by decide), ← h.1.2.1, wI_self]
  have S1 := m_qSums_v hq h0 h hl
  unfold rCmp
  cases r1 : rSum n b q (6 - d) j with
  | inl g =>
    rw [r1] at S1
    obtain ⟨z2, s1, s2⟩ := S1
    rw [s1, bnv_s, if_neg s2.ne]
    exact ⟨z2, rfl, s2.up (by decide)⟩
  | inr p =>
    obtain ⟨c, e⟩ := p
    rw [r1] at S1
    obtain ⟨z2, s1, s2, s3, s4⟩ := S1
    have g1 := rSum_pg n b q (6 - d) _ _ _ r1
    have g2 := rSum_pc (n := n) (b := b) q (6 - d) _ _ _ r1
    rw [hs] at g1
    rw [s1, bnv_s, if_pos s2.2.1, m_look_j s2.1 s4, bnd_s, sbd_r, s4]
    simp only [jn_s]
    have ri : ∀ s, s < 256 → ((rI n b e = nI s) ↔ rB n b e = s) := fun s hs => rI_eq s2.1.1 e hs
    have e60 : (rI n b e = (60 : Int32)) ↔ rB n b e = 60 := ri 60 (by decide)
    have e62 : (rI n b e = (62 : Int32)) ↔ rB n b e = 62 := ri 62 (by decide)
    have e61 : (rI n b e = (61 : Int32)) ↔ rB n b e = 61 := ri 61 (by decide)
    -- behind the sign
    have nx : ∀ (s : Nat) (x : Int32), rB n b e = s → (s = 60 ∨ s = 61 ∨ s = 62) →
        match (sbd (rSum n b q (6 - d) (e + 1)) fun c2 e2 => (.inr (c ++ c2 ++ [x], e2) : RS (List Int32))) with
        | .inl g => ∃ z', (nm (wI z2 2 (mI z2 2 + 1)) fun z5 => bnv (m_qSums z5) fun z6 => bnv (m_qCode x z6) fun z8 => some z8) = some z' ∧ mQF z0 g.1 g.2 1602 z'
        | .inr (c, e) => ∃ z', (nm (wI z2 2 (mI z2 2 + 1)) fun z5 => bnv (m_qSums z5) fun z6 => bnv (m_qCode x z6) fun z8 => some z8) = some z' ∧ mQ n b q z0 e σ (C ++ c) d bs z' ∧ (C ++ c).length + σ.length ≤ e ∧ j < e := by
      intro s x hs' hx
      obtain ⟨b1, b2⟩ := rB_lt hs' (by omega)
      have hb : isL (b e) = false ∧ isD (b e) = false := by
        rw [b2]
        rcases hx with rfl | rfl | rfl <;> decide
      rw [nm_s, s2.1.2.1, nI_1]
      have S2 := m_qSums_v hq h0 (s2.sg b1 (Nat.le_refl _) hb) (by omega)
      cases r2 : rSum n b q (6 - d) (e + 1) with
      | inl g =>
        rw [r2] at S2
        obtain ⟨z6, t1, t2⟩ := S2
        obtain ⟨z8, t3, t4⟩ := t2.code (by decide) x
        rw [t1, bnv_s, t3, bnv_s]
        exact ⟨z8, rfl, t4⟩
      | inr p =>
        obtain ⟨c2, e2⟩ := p
        rw [r2] at S2
        obtain ⟨z6, t1, t2, t3, t4⟩ := S2
        have g3 := rSum_pc (n := n) (b := b) q (6 - d) _ _ _ r2
        have g4 := t2.1.2.2.1
        rw [List.length_append] at s3
        obtain ⟨z8, t5, t6⟩ := t2.code (by rw [List.length_append, List.length_append]; omega) x
        rw [t1, bnv_s, t5, bnv_s]
        refine ⟨z8, rfl, ?_, ?_, by omega⟩
        · rw [show C ++ (c ++ c2 ++ [x]) = C ++ c ++ c2 ++ [x] by simp [List.append_assoc]]
          exact t6
        · rw [List.length_append, List.length_append, List.length_append]
          show C.length + (c.length + c2.length + 1) + σ.length ≤ e2
          omega
    by_cases c60 : rB n b e = 60
    · rw [if_pos (e60.mpr c60), if_pos (Or.inl c60)]
      have := nx 60 7 c60 (Or.inl rfl)
      simp only [if_pos c60, if_pos (e60.mpr c60)]
      exact this
    · rw [if_neg (fun g => c60 (e60.mp g))]
      by_cases c62 : rB n b e = 62
      · rw [if_pos (e62.mpr c62), if_pos (Or.inr (Or.inr c62))]
        have := nx 62 8 c62 (Or.inr (Or.inr rfl))
        simp only [if_neg c60, if_pos c62, if_neg (fun g => c60 (e60.mp g)), if_pos (e62.mpr c62)]
        exact this
      · rw [if_neg (fun g => c62 (e62.mp g))]
        by_cases c61 : rB n b e = 61
        · rw [if_pos (e61.mpr c61), if_pos (Or.inr (Or.inl c61))]
          have := nx 61 9 c61 (Or.inr (Or.inl rfl))
          simp only [if_neg c60, if_neg c62, if_neg (fun g => c60 (e60.mp g)), if_neg (fun g => c62 (e62.mp g))]
          exact this
        · rw [if_neg (fun g => c61 (e61.mp g)), if_neg (fun g => g.elim c60 (fun g => g.elim c61 c62)), s2.1.2.1, show (1 : Int32) = nI 1 from rfl, m_fail_v s2.2.1, bnv_s]
          have := s2.1.2.2.1
          exact ⟨_, rfl, (s2.flt (by omega) (k := 1) (by decide) e).up (by decide)⟩
/-! nots dropped; a square bracket looked for -/
theorem dnot_len : ∀ (σ C : List Int32) (d : Nat), (dnot σ C d).2.1.length + (dnot σ C d).1.length = C.length + σ.length
  | [], C, d => rfl
  | x :: σ, C, d => by
    have e : dnot (x :: σ) C d = if x = 12 then dnot σ (C ++ [x]) (d - 1) else (x :: σ, C, d) := rfl
    rw [e]
    by_cases c : x = 12
    · rw [if_pos c, dnot_len σ (C ++ [x]) (d - 1), List.length_append]
      show C.length + 1 + σ.length = C.length + (σ.length + 1)
      omega
    · rw [if_neg c]
theorem nots_L {i bs : Nat} (dm : MS → Option MS) : ∀ (m : Nat) (σ C : List Int32) (d : Nat) (z : MS), mQ n b q z0 i σ C d bs z → σ.length < m → C.length + σ.length ≤ 1600 →
    ∃ z', fx m_qDropsNots_L0 dm m z = some z' ∧ mQ n b q z0 i (dnot σ C d).1 (dnot σ C d).2.1 (dnot σ C d).2.2 bs z'
  | 0, σ, C, d, z, _, h, _ => absurd h (Nat.not_lt_zero _)
  | m + 1, σ, C, d, z, h, hm, hl => by
    have IH := nots_L (i := i) (bs := bs) dm m
    rw [fx_s]
    generalize fx m_qDropsNots_L0 dm m = S at IH ⊢
    unfold m_qDropsNots_L0
    rw [if_pos h.2.1, m_qIsOn_v h (by omega), bnd_s]
    cases σ with
    | nil =>
      rw [show tpI [] 12 = false from rfl, if_pos (by decide)]
      exact ⟨z, rfl, h⟩
    | cons x τ =>
      have hl : C.length + (τ.length + 1) ≤ 1600 := hl
      have e : dnot (x :: τ) C d = if x = 12 then dnot τ (C ++ [x]) (d - 1) else (x :: τ, C, d) := rfl
      rw [e, show tpI (x :: τ) 12 = decide (x = 12) from rfl]
      by_cases c : x = 12
      · rw [decide_eq_true c, if_neg (by decide), if_pos c, nm_s]
        obtain ⟨z', q1, q2⟩ := h.dropo (by rw [c]; decide) (by omega) (by omega)
        rw [q1, bnv_s]
        exact IH τ (C ++ [x]) (d - 1) z' q2 (by have hm : τ.length + 1 < m + 1 := hm; omega) (by rw [List.length_append]; show C.length + 1 + τ.length ≤ 1600; omega)
      · rw [decide_eq_false c, if_pos (by decide), if_neg c]
        exact ⟨z, rfl, h⟩
theorem m_qDropsNots_v {i : Nat} {σ C : List Int32} {d bs : Nat} {z : MS} (h : mQ n b q z0 i σ C d bs z) (hl : C.length + σ.length ≤ 1600) :
    ∃ z', m_qDropsNots z = some z' ∧ mQ n b q z0 i (dnot σ C d).1 (dnot σ C d).2.1 (dnot σ C d).2.2 bs z' :=
  nots_L _ FU σ C d z h (FU_gt (by omega)) hl
theorem m_qDropsNots_f {z : MS} (h : ¬ mI z 5 = 0) : m_qDropsNots z = some z := by
  unfold m_qDropsNots
  rw [fx_FU]
  unfold m_qDropsNots_L0
  rw [if_neg h]
theorem has25_mem : ∀ (σ : List Int32), has25 σ = decide ((25 : Int32) ∈ σ)
  | [] => rfl
  | x :: σ => by
    show (decide (x = 25) || has25 σ) = _
    rw [has25_mem σ]
    by_cases c : x = 25
    · rw [decide_eq_true c, c, decide_eq_true (List.mem_cons_self)]
      rfl
    · rw [decide_eq_false c, Bool.false_or]
      exact decide_eq_decide.mpr ⟨fun h => List.mem_cons_of_mem _ h, fun h => by
        rcases List.mem_cons.mp h with h | h
        · exact absurd h.symm c
        · exact h⟩
theorem sq_L {i bs : Nat} (dm : Int32 → MS → Option (Bool × MS)) {σ C : List Int32} {d : Nat} {z : MS} (h : mQ n b q z0 i σ C d bs z) (hl : σ.length ≤ 1600) : ∀ (m k : Nat), k ≤ σ.length → σ.length - k < m →
    fx m_qHasSquare_L2 dm m (nI k) z = some (decide ((25 : Int32) ∈ σ.reverse.drop k), z)
  | 0, k, _, h => absurd h (Nat.not_lt_zero _)
  | m + 1, k, hk, hm => by
    have IH := sq_L dm h hl m
    rw [fx_s]
    generalize fx m_qHasSquare_L2 dm m = S at IH ⊢
    unfold m_qHasSquare_L2
    rw [h.2.2.2.1.2.2.1]
    by_cases c : k < σ.length
    · have e1 : mA z 95 k = σ.reverse[k]'(by rw [List.length_reverse]; exact c) := by
        rw [h.2.2.2.1.2.2.2.1 k c, List.getElem_reverse]
        simp [List.getD, show σ.length - 1 - k < σ.length by omega]
      rw [if_neg (nI_ge c (by omega)), ck_t (inb_nI (by show _ < 1700; omega) (by decide)), nI_c (show k < 2 ^ 31 by omega), e1, List.drop_eq_getElem_cons (by rw [List.length_reverse]; exact c)]
      by_cases x : σ.reverse[k]'(by rw [List.length_reverse]; exact c) = 25
      · rw [if_pos x, x, decide_eq_true List.mem_cons_self]
      · rw [if_neg x, nI_1, IH (k + 1) c (by omega)]
        congr 2
        exact decide_eq_decide.mpr ⟨fun h => List.mem_cons_of_mem _ h, fun h => by
          rcases List.mem_cons.mp h with h | h
          · exact absurd h.symm x
          · exact h⟩
    · rw [if_pos (nI_le (by omega) (by omega)), show k = σ.length by omega, List.drop_eq_nil_of_le (by rw [List.length_reverse]; omega)]
      rfl
theorem m_qHasSquare_v {i bs : Nat} {σ C : List Int32} {d : Nat} {z : MS} (h : mQ n b q z0 i σ C d bs z) (hl : σ.length ≤ 1600) : m_qHasSquare z = some (has25 σ, z) := by
  unfold m_qHasSquare
  rw [show (0 : Int32) = nI 0 from rfl, sq_L _ h hl FU 0 (Nat.zero_le _) (FU_gt (by omega)), has25_mem]
  congr 2
  exact decide_eq_decide.mpr (by rw [List.drop_zero, List.mem_reverse])
end RK
