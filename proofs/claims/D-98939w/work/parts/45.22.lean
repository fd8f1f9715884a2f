/-! PART 22: plain: the Model's tests -/
set_option maxRecDepth 100000
noncomputable def tGK : MS → Option (Bool × MS) := fun z1 =>
    bnd (m_takes 75 z1) fun r1 z2 =>
    if (bI r1) = 0 then
      bnd (m_takes 76 z2) fun r2 z3 =>
      if (bI r2) = 0 then
        if (mI z3 5) = 0 then
          bnd (m_qHasSquare z3) fun r3 z4 =>
          if (bI r3) = 0 then
            some (false, z4)
          else
            bnv (m_fail 1 (mI z4 2) z4) fun z5 =>
            some (false, z5)
        else
          some (false, z3)
      else
        jn (fun (z6 : MS) =>
          ck (inb (mI z6 96) (mN 95)) <|
          nm (wA z6 95 (Int32.toNatClampNeg (mI z6 96)) 11) fun z7 =>
          nm (wI z7 96 ((mI z7 96) + 1)) fun z8 =>
          some (true, z8)) fun k162 =>
        fx (m_qGoesOnTest_L137 k162) (fun _ => none) FU  z3
    else
      jn (fun (z14 : MS) =>
        ck (inb (mI z14 96) (mN 95)) <|
        nm (wA z14 95 (Int32.toNatClampNeg (mI z14 96)) 10) fun z15 =>
        nm (wI z15 96 ((mI z15 96) + 1)) fun z16 =>
        some (true, z16)) fun k103 =>
      fx (m_qGoesOnTest_L87 k103) (fun _ => none) FU  z2
section RL
variable {n : Nat} {b : Nat → Nat} {q : Nat} {z0 : MS}
def tOk (σ : List Int32) : Prop := ∀ x, x ∈ σ → isOp x = false
theorem tOk.hd {σ : List Int32} (h : tOk σ) : ∀ x τ, σ = x :: τ → isOp x = false := fun x τ e => h x (by rw [e]; exact List.mem_cons_self)
theorem tOk.cons {σ : List Int32} (h : tOk σ) {x : Int32} (hx : isOp x = false) : tOk (x :: σ) := fun y hy => by
  rcases List.mem_cons.mp hy with rfl | hy
  · exact hx
  · exact h y hy
theorem popW_mem (P : Int32 → Bool) : ∀ (σ C : List Int32) (x : Int32), x ∈ (popW P σ C).1 → x ∈ σ
  | [], C, x, h => h
  | y :: σ, C, x, h => by
    have e : popW P (y :: σ) C = if P y = true then popW P σ (C ++ [y]) else (y :: σ, C) := rfl
    rw [e] at h
    by_cases c : P y = true
    · rw [if_pos c] at h
      exact List.mem_cons_of_mem _ (popW_mem P σ _ x h)
    · rw [if_neg c] at h
      exact h
theorem dnot_mem : ∀ (σ C : List Int32) (d : Nat) (x : Int32), x ∈ (dnot σ C d).1 → x ∈ σ
  | [], C, d, x, h => h
  | y :: σ, C, d, x, h => by
    have e : dnot (y :: σ) C d = if y = 12 then dnot σ (C ++ [y]) (d - 1) else (y :: σ, C, d) := rfl
    rw [e] at h
    by_cases c : y = 12
    · rw [if_pos c] at h
      exact List.mem_cons_of_mem _ (dnot_mem σ _ _ x h)
    · rw [if_neg c] at h
      exact h
theorem spq_mem : ∀ (σ : List Int32) (x : Int32), x ∈ (spq σ).2 → x ∈ σ
  | [], x, h => h
  | y :: σ, x, h => by
    have e : spq (y :: σ) = if y = 25 then ([], σ) else (y :: (spq σ).1, (spq σ).2) := rfl
    rw [e] at h
    by_cases c : y = 25
    · rw [if_pos c] at h
      exact List.mem_cons_of_mem _ h
    · rw [if_neg c] at h
      exact List.mem_cons_of_mem _ (spq_mem σ x h)
theorem spq_len : ∀ (σ : List Int32), has25 σ = true → (spq σ).1.length + (spq σ).2.length + 1 = σ.length
  | [], h => by cases h
  | y :: σ, h => by
    have e : spq (y :: σ) = if y = 25 then ([], σ) else (y :: (spq σ).1, (spq σ).2) := rfl
    rw [e]
    by_cases c : y = 25
    · rw [if_pos c]
      show 0 + σ.length + 1 = σ.length + 1
      omega
    · rw [if_neg c]
      have h : (decide (y = 25) || has25 σ) = true := h
      rw [decide_eq_false c, Bool.false_or] at h
      have := spq_len σ h
      show (spq σ).1.length + 1 + (spq σ).2.length + 1 = σ.length + 1
      omega
/-- 'and's dropped -/
theorem popT_A {i : Nat} (k : MS → Option (Bool × MS)) (dm : MS → Option (Bool × MS)) : ∀ (m : Nat) (σ C : List Int32) (d : Nat) (z : MS), mQ n b q z0 i σ C d 0 z → C.length + σ.length ≤ 1600 → σ.length < m →
    ∃ z', fx (m_qGoesOnTest_L87 k) dm m z = k z' ∧ mQ n b q z0 i (popW is10 σ C).1 (popW is10 σ C).2 d 0 z'
  | 0, σ, C, d, z, _, _, h => absurd h (Nat.not_lt_zero _)
  | m + 1, σ, C, d, z, h, hl, hm => by
    have IH := popT_A (i := i) k dm m
    rw [fx_s]
    generalize fx (m_qGoesOnTest_L87 k) dm m = S at IH ⊢
    unfold m_qGoesOnTest_L87
    rw [m_qIsOn_v h (by omega), bnd_s]
    cases σ with
    | nil =>
      rw [show tpI [] 10 = false from rfl, if_pos (by decide)]
      exact ⟨z, rfl, h⟩
    | cons x τ =>
      have hl : C.length + (τ.length + 1) ≤ 1600 := hl
      have ep : popW is10 (x :: τ) C = if is10 x = true then popW is10 τ (C ++ [x]) else (x :: τ, C) := rfl
      rw [ep, show tpI (x :: τ) 10 = decide (x = 10) from rfl]
      by_cases c : x = 10
      · rw [decide_eq_true c, if_neg (by decide), if_pos (show is10 x = true from decide_eq_true c)]
        obtain ⟨z1, q1, q2⟩ := h.drops (by omega) (by omega)
        rw [q1, bnv_s]
        exact IH τ (C ++ [x]) d z1 q2 (by rw [List.length_append]; show C.length + 1 + _ ≤ 1600; omega) (by have hm : τ.length + 1 < m + 1 := hm; omega)
      · rw [decide_eq_false c, if_pos (by decide), if_neg (show ¬ is10 x = true from fun g => c (of_decide_eq_true g))]
        exact ⟨z, rfl, h⟩
theorem popT_O {i : Nat} (k : MS → Option (Bool × MS)) (dm : MS → Option (Bool × MS)) : ∀ (m : Nat) (σ C : List Int32) (d : Nat) (z : MS), mQ n b q z0 i σ C d 0 z → C.length + σ.length ≤ 1600 → σ.length < m →
    ∃ z', fx (m_qGoesOnTest_L137 k) dm m z = k z' ∧ mQ n b q z0 i (popW is11 σ C).1 (popW is11 σ C).2 d 0 z'
  | 0, σ, C, d, z, _, _, h => absurd h (Nat.not_lt_zero _)
  | m + 1, σ, C, d, z, h, hl, hm => by
    have IH := popT_O (i := i) k dm m
    rw [fx_s]
    generalize fx (m_qGoesOnTest_L137 k) dm m = S at IH ⊢
    unfold m_qGoesOnTest_L137
    rw [m_qIsOn_v h (by omega), bnd_s, jn_s]
    cases σ with
    | nil =>
      rw [show tpI [] 10 = false from rfl, if_pos (by decide), m_qIsOn_v h (by omega), bnd_s, show tpI [] 11 = false from rfl, if_pos (by decide)]
      exact ⟨z, rfl, h⟩
    | cons x τ =>
      have hl : C.length + (τ.length + 1) ≤ 1600 := hl
      have ep : popW is11 (x :: τ) C = if is11 x = true then popW is11 τ (C ++ [x]) else (x :: τ, C) := rfl
      rw [ep, show tpI (x :: τ) 10 = decide (x = 10) from rfl]
      have go : is11 x = true → ∃ z', (bnv (m_qDrops z) fun z11 => S z11) = k z' ∧ mQ n b q z0 i (popW is11 τ (C ++ [x])).1 (popW is11 τ (C ++ [x])).2 d 0 z' := by
        intro _
        obtain ⟨z1, q1, q2⟩ := h.drops (by omega) (by omega)
        rw [q1, bnv_s]
        exact IH τ (C ++ [x]) d z1 q2 (by rw [List.length_append]; show C.length + 1 + _ ≤ 1600; omega) (by have hm : τ.length + 1 < m + 1 := hm; omega)
      by_cases c : x = 10
      · have c' : is11 x = true := decide_eq_true (Or.inl c)
        rw [decide_eq_true c, if_neg (by decide), if_pos c']
        exact go c'
      · rw [decide_eq_false c, if_pos (by decide), m_qIsOn_v h (by show τ.length + 1 ≤ 1600; omega), bnd_s, show tpI (x :: τ) 11 = decide (x = 11) from rfl]
        by_cases c2 : x = 11
        · have c' : is11 x = true := decide_eq_true (Or.inr c2)
          rw [decide_eq_true c2, if_neg (by decide), if_pos c']
          exact go c'
        · rw [decide_eq_false c2, if_pos (by decide), if_neg (show ¬ is11 x = true from fun g => (of_decide_eq_true g).elim c c2)]
          exact ⟨z, rfl, h⟩
theorem sq_D {i : Nat} (k : MS → Option (Bool × MS)) (dm : MS → Option (Bool × MS)) : ∀ (m : Nat) (σ C : List Int32) (d : Nat) (z : MS), has25 σ = true → mQ n b q z0 i σ C d 0 z → C.length + σ.length ≤ 1600 → σ.length < m →
    ∃ z', fx (m_qGoesOnTest_L33 k) dm m z = k z' ∧ mQ n b q z0 i (25 :: (spq σ).2) (C ++ (spq σ).1) d 0 z'
  | 0, σ, C, d, z, _, _, _, h => absurd h (Nat.not_lt_zero _)
  | m + 1, σ, C, d, z, hh, h, hl, hm => by
    have IH := sq_D (i := i) k dm m
    rw [fx_s]
    generalize fx (m_qGoesOnTest_L33 k) dm m = S at IH ⊢
    unfold m_qGoesOnTest_L33
    rw [m_qIsOn_v h (by omega), bnd_s]
    cases σ with
    | nil => cases hh
    | cons x τ =>
      have hl : C.length + (τ.length + 1) ≤ 1600 := hl
      have e : spq (x :: τ) = if x = 25 then ([], τ) else (x :: (spq τ).1, (spq τ).2) := rfl
      rw [e, show tpI (x :: τ) 25 = decide (x = 25) from rfl]
      by_cases c : x = 25
      · rw [decide_eq_true c, if_neg (by decide), if_pos c]
        refine ⟨z, rfl, ?_⟩
        show mQ n b q z0 i (25 :: τ) (C ++ []) d 0 z
        rw [List.append_nil, ← c]
        exact h
      · rw [decide_eq_false c, if_pos (by decide), if_neg c]
        have hh : (decide (x = 25) || has25 τ) = true := hh
        rw [decide_eq_false c, Bool.false_or] at hh
        obtain ⟨z1, q1, q2⟩ := h.drops (by omega) (by omega)
        rw [q1, bnv_s]
        obtain ⟨z2, p1, p2⟩ := IH τ (C ++ [x]) d z1 hh q2 (by rw [List.length_append]; show C.length + 1 + _ ≤ 1600; omega) (by have hm : τ.length + 1 < m + 1 := hm; omega)
        refine ⟨z2, p1, ?_⟩
        show mQ n b q z0 i (25 :: (spq τ).2) (C ++ x :: (spq τ).1) d 0 z2
        rw [show C ++ x :: (spq τ).1 = C ++ [x] ++ (spq τ).1 by simp]
        exact p2
/-- what going on leaves -/
def tGo (n : Nat) (b : Nat → Nat) (q : Nat) (z0 : MS) (a : Nat) (s' : QM) (r : Bool × MS) : Prop :=
  (r.1 = true ∧ ∃ i' σ' C' d', s' = (0, i', σ', C', d') ∧ mQ n b q z0 i' σ' C' d' 0 r.2 ∧ C'.length + σ'.length ≤ i' ∧ tOk σ' ∧ a < i') ∨
  (r.1 = false ∧ ∃ j σ' C' d', s' = (2, j, [], C' ++ σ', d') ∧ mQ n b q z0 j σ' C' d' 0 r.2 ∧ C'.length + σ'.length ≤ j) ∨
  (r.1 = false ∧ ∃ k p, s' = qF k p ∧ mQF z0 k p 1602 r.2)
theorem tgoes2 {a j : Nat} {σ C : List Int32} {d : Nat} {z : MS} (ho : tOk σ) (h : mQ n b q z0 j σ C d 0 z) (hl : C.length + σ.length ≤ j) (ha : a ≤ j) (hs : sSk n b j = j) (hn93 : ¬ (rB n b j = 93 ∧ has25 σ = true)) :
    Ok (tGK z) (tGo n b q z0 a (tStG n b j σ C d)) := by
  have hn := h.1.1.1
  have hjn := h.1.2.2.1
  have zz : wI z 2 (nI j) = z := by rw [← h.1.2.1, wI_self]
  have pushed : ∀ (x : Int32) (P : Int32 → Bool) (e : Nat) (z5 : MS), x < 12 → isOp x = false → j < e → mQ n b q z0 e (popW P σ C).1 (popW P σ C).2 d 0 z5 →
      Ok (ck (inb (mI z5 96) (mN 95)) <|
          nm (wA z5 95 (Int32.toNatClampNeg (mI z5 96)) x) fun z6 =>
          nm (wI z6 96 ((mI z6 96) + 1)) fun z7 =>
          some (true, z7)) (tGo n b q z0 a (0, e, x :: (popW P σ C).1, (popW P σ C).2, d)) := by
    intro x P e z5 hx hx2 he g
    have pl := popW_len P σ C
    rw [g.2.2.2.1.2.2.1, ck_t (inb_nI (by show _ < 1700; omega) (by decide)), nm_s, nm_s, nI_c (show (popW P σ C).1.length < 2 ^ 31 by omega), mI_wA, g.2.2.2.1.2.2.1, nI_1]
    refine Ok.of (Or.inl ⟨rfl, e, x :: (popW P σ C).1, _, d, rfl, g.push (by omega) x rfl hx, ?_, ?_, by omega⟩)
    · show (popW P σ C).2.length + ((popW P σ C).1.length + 1) ≤ e
      omega
    · exact (show tOk (popW P σ C).1 from fun y hy => ho y (popW_mem P σ C y hy)).cons hx2
  unfold tGK tStG
  rw [if_neg hn93]
  have t1 := m_takes_v (w := 75) (W := wAnd) rfl rfl (by decide) h.1 h.2.1
  have t2 := m_takes_v (w := 76) (W := wOr) rfl rfl (by decide) h.1 h.2.1
  rw [hs, zz] at t1 t2
  rw [t1, bnd_s]
  simp only [jn_s]
  cases c1 : hB n b j wAnd with
  | true =>
    obtain ⟨-, -, -, -, -, w1, w2⟩ := hB_t c1
    rw [if_neg (show ¬ bI true = 0 by decide), if_pos rfl, if_pos rfl]
    obtain ⟨z', q1, q2⟩ := popT_A _ (fun _ => none) FU σ C d _ (h.ed w2 (pv_we w1)) (by omega) (FU_gt (by omega))
    rw [q1]
    exact pushed 10 is10 _ z' (by decide) (by decide) w1 q2
  | false =>
    rw [if_pos (show bI false = 0 by decide), if_neg (show ¬ (false = true) by decide), if_neg (show ¬ (false = true) by decide), t2, bnd_s]
    cases c2 : hB n b j wOr with
    | true =>
      obtain ⟨-, -, -, -, -, w1, w2⟩ := hB_t c2
      rw [if_neg (show ¬ bI true = 0 by decide), if_pos rfl, if_pos rfl]
      obtain ⟨z', q1, q2⟩ := popT_O _ (fun _ => none) FU σ C d _ (h.ed w2 (pv_we w1)) (by omega) (FU_gt (by omega))
      rw [q1]
      exact pushed 11 is11 _ z' (by decide) (by decide) w1 q2
    | false =>
      rw [if_pos (show bI false = 0 by decide), if_neg (show ¬ (false = true) by decide), if_neg (show ¬ (false = true) by decide), if_pos h.2.1, m_qHasSquare_v h (by omega), bnd_s]
      cases c3 : has25 σ with
      | false =>
        rw [if_pos (show bI false = 0 by decide), if_neg (show ¬ (false = true) by decide)]
        exact Ok.of (Or.inr (Or.inl ⟨rfl, j, σ, C, d, rfl, h, hl⟩))
      | true =>
        rw [if_neg (show ¬ bI true = 0 by decide), if_pos rfl, h.1.2.1, show (1 : Int32) = nI 1 from rfl, m_fail_v h.2.1, bnv_s]
        exact Ok.of (Or.inr (Or.inr ⟨rfl, 1, j, rfl, (h.flt (by omega) (by decide) j).up (by decide)⟩))
theorem tgoes_L (dm : MS → Option (Bool × MS)) : ∀ (m a : Nat) (σ C : List Int32) (d : Nat) (z : MS), tOk σ → mQ n b q z0 a σ C d 0 z → C.length + σ.length ≤ a → n - a < m →
    ∃ s', tch n b q (1, sSk n b a, σ, C, d) s' ∧ Ok (fx (m_qGoesOnTest_L0 tGK) dm m z) (tGo n b q z0 a s')
  | 0, a, σ, C, d, z, _, _, _, h => absurd h (Nat.not_lt_zero _)
  | m + 1, a, σ, C, d, z, ho, h, hl, hm => by
    have hn := h.1.1.1
    have han := h.1.2.2.1
    have hsk := h.sk
    have hj1 := sSk_ge n b a
    have hj2 := sSk_le b han
    have hjj := sSk_id n b a
    have st : tSt n b q (1, sSk n b a, σ, C, d) = tStG n b (sSk n b (sSk n b a)) σ C d := rfl
    rw [hjj] at st
    have IH := tgoes_L dm m
    rw [fx_s]
    generalize fx (m_qGoesOnTest_L0 tGK) dm m = S at IH ⊢
    unfold m_qGoesOnTest_L0
    rw [if_pos h.2.1, m_look_v h.1, bnd_s]
    generalize wI z 2 (nI (sSk n b a)) = z1 at hsk
    generalize sSk n b a = j at hsk st hj1 hj2 hjj
    have hl6 : C.length + σ.length ≤ 1600 := by omega
    by_cases c1 : rB n b j = 93
    · rw [if_pos (show rI n b j = 93 from (rI_eq h.1.1 j (s := 93) (by decide)).mpr c1), m_qHasSquare_v hsk (by omega), bnd_s]
      obtain ⟨b1, b2⟩ := rB_lt c1 (by decide)
      cases c2 : has25 σ with
      | false =>
        rw [if_pos (by decide)]
        exact ⟨_, tch.st st, tgoes2 ho hsk (by omega) hj1 hjj (fun g => by rw [c2] at g; exact absurd g.2 (by decide))⟩
      | true =>
        rw [if_neg (by decide), nm_s, hsk.1.2.1, nI_1]
        simp only [jn_s]
        unfold tStG at st
        rw [if_pos ⟨c1, c2⟩] at st
        have sl := spq_len σ c2
        have g1 := hsk.sg b1 (Nat.le_refl _) (by rw [b2]; decide)
        obtain ⟨z41, d1, d2⟩ := sq_D (fun z24 => nm (wI z24 96 ((mI z24 96) - 1)) fun z25 =>
          nm (wI z25 97 ((mI z25 97) - 1)) fun z26 =>
          bnv (m_qDropsNots z26) fun z27 => S z27) (fun _ => none) FU σ C d _ c2 g1 hl6 (FU_gt (by omega))
        rw [d1]
        obtain ⟨t1, t2, t3, t4⟩ := d2.top (by omega)
        obtain ⟨p1, p2⟩ := d2.popo (by decide) (z' := wI (wI z41 96 (nI (spq σ).2.length)) 97 (nI (d - 1))) (Or.inl rfl)
        rw [nm_s, nm_s, t1, mI_ne _ (show (97 : Nat) ≠ 96 by decide), d2.2.2.2.1.2.2.2.2.1, nI_m1 p2]
        obtain ⟨z45, v1, v2⟩ := m_qDropsNots_v p1 (by rw [List.length_append]; omega)
        rw [v1, bnv_s]
        have el := dnot_len (spq σ).2 (C ++ (spq σ).1) (d - 1)
        rw [List.length_append] at el
        obtain ⟨s', r1, r2⟩ := IH (j + 1) _ _ _ z45 (fun x hx => ho x (spq_mem σ x (dnot_mem _ _ _ x hx))) v2 (by omega) (by omega)
        refine ⟨s', (tch.st st).tr r1, r2.mono (fun r hr => ?_)⟩
        rcases hr with ⟨u0, i', σ', C', d', u1, u2, u3, u5, u4⟩ | hr | hr
        · exact Or.inl ⟨u0, i', σ', C', d', u1, u2, u3, u5, by omega⟩
        · exact Or.inr (Or.inl hr)
        · exact Or.inr (Or.inr hr)
    · rw [if_neg (show ¬ rI n b j = 93 from fun g => c1 ((rI_eq h.1.1 j (s := 93) (by decide)).mp g))]
      exact ⟨_, tch.st st, tgoes2 ho hsk (by omega) hj1 hjj (fun g => c1 g.1)⟩
theorem m_qGoesOnTest_v {a : Nat} {σ C : List Int32} {d : Nat} {z : MS} (ho : tOk σ) (h : mQ n b q z0 a σ C d 0 z) (hl : C.length + σ.length ≤ a) :
    ∃ s', tch n b q (1, sSk n b a, σ, C, d) s' ∧ Ok (m_qGoesOnTest z) (tGo n b q z0 a s') :=
  tgoes_L (fun _ => none) FU a σ C d z ho h hl (FU_gt (by have := h.1.1.1; omega))
theorem test_f (k : MS → Option MS) (dm : Bool → MS → Option MS) (m : Nat) (z : MS) : fx (m_qTest_L2 k) dm (m + 1) false z = k z := by
  rw [fx_s]
  unfold m_qTest_L2
  rw [if_pos (by decide)]
theorem test_t (k : MS → Option MS) (dm : Bool → MS → Option MS) (m : Nat) {z : MS} (h : ¬ mI z 5 = 0) : fx (m_qTest_L2 k) dm (m + 1) true z = k z := by
  rw [fx_s]
  unfold m_qTest_L2
  rw [if_neg (by decide), if_neg h]
theorem test_L (hq : q < 3) (k : MS → Option MS) (dm : Bool → MS → Option MS) : ∀ (m i : Nat) (σ C : List Int32) (d : Nat) (z : MS), tOk σ → mQ n b q z0 i σ C d 0 z → C.length + σ.length ≤ i → n - i + 1 < m →
    ∃ s' z', tch n b q (0, i, σ, C, d) s' ∧ fx (m_qTest_L2 k) dm m true z = k z' ∧ ((∃ j σ' C' d', s' = (2, j, [], C' ++ σ', d') ∧ mQ n b q z0 j σ' C' d' 0 z' ∧ C'.length + σ'.length ≤ j) ∨ ∃ kk p, s' = qF kk p ∧ mQF z0 kk p 1602 z')
  | 0, i, σ, C, d, z, _, _, _, h => absurd h (Nat.not_lt_zero _)
  | m + 1, i, σ, C, d, z, ho, h, hl, hm => by
    have hn := h.1.1.1
    have hin := h.1.2.2.1
    have hsk := h.sk
    have hj1 := sSk_ge n b i
    have hj2 := sSk_le b hin
    have hjj := sSk_id n b i
    have st : tSt n b q (0, i, σ, C, d) = tStE n b q (sSk n b i) σ C d := rfl
    obtain ⟨m, rfl⟩ : ∃ m', m = m' + 1 := ⟨m - 1, by omega⟩
    have IH0 := test_L hq k dm (m + 1)
    have IHf := test_f k dm m
    have IHt := fun {z} h => test_t k dm m (z := z) h
    rw [fx_s]
    generalize fx (m_qTest_L2 k) dm (m + 1) = S at IH0 IHf IHt ⊢
    unfold m_qTest_L2
    rw [if_neg (show ¬ bI true = 0 by decide), if_pos h.2.1, m_look_v h.1, bnd_s]
    generalize wI z 2 (nI (sSk n b i)) = z1 at hsk
    generalize sSk n b i = j at hsk st hj1 hj2 hjj
    have hC : C.length ≤ 1600 := by omega
    have IH : ∀ i' σ' C' d' z', tOk σ' → mQ n b q z0 i' σ' C' d' 0 z' → C'.length + σ'.length ≤ i' → i < i' → tch n b q (0, i, σ, C, d) (0, i', σ', C', d') →
        ∃ s' z'', tch n b q (0, i, σ, C, d) s' ∧ S true z' = k z'' ∧ ((∃ j σ' C' d', s' = (2, j, [], C' ++ σ', d') ∧ mQ n b q z0 j σ' C' d' 0 z'' ∧ C'.length + σ'.length ≤ j) ∨ ∃ kk p, s' = qF kk p ∧ mQF z0 kk p 1602 z'') := by
      intro i' σ' C' d' z' g0 g1 g2 g3 g4
      have := g1.1.2.2.1
      obtain ⟨s', z'', p1, p2⟩ := IH0 i' σ' C' d' z' g0 g1 g2 (by omega)
      exact ⟨s', z'', g4.tr p1, p2⟩
    unfold tStE at st
    by_cases c1 : rB n b j = 91
    · rw [if_pos (show rI n b j = 91 from (rI_eq h.1.1 j (s := 91) (by decide)).mpr c1), hsk.1.2.1]
      obtain ⟨o1, o2⟩ := hsk.opens hC (by omega) 25 j
      rw [if_pos c1] at st
      obtain ⟨b1, b2⟩ := rB_lt c1 (by decide)
      by_cases c2 : d = 6
      · rw [o1 c2, bnv_s, nm_s]
        rw [if_pos c2] at st
        have hF := (hsk.flt hC (k := 4) (by decide) j).int (a := 2) (by decide) (mI (mFlt z1 4 j) 2 + 1)
        rw [IHt hF.ne]
        exact ⟨_, _, tch.st st, rfl, Or.inr ⟨4, j, rfl, hF.up (by decide)⟩⟩
      · obtain ⟨z2, o3, o4⟩ := o2 c2
        rw [o3, bnv_s, nm_s, o4.1.2.1, nI_1]
        rw [if_neg c2] at st
        exact IH (j + 1) (25 :: σ) C (d + 1) _ (ho.cons (by decide)) (o4.sg b1 (Nat.le_refl _) (by rw [b2]; decide)) (by show C.length + (σ.length + 1) ≤ j + 1; omega) (by omega) (tch.st st)
    rw [if_neg (show ¬ rI n b j = 91 from fun g => c1 ((rI_eq h.1.1 j (s := 91) (by decide)).mp g)), m_isHere_j (w := 74) (W := wNot) rfl rfl (by decide) hsk.1 hjj hsk.2.1, bnd_s]
    rw [if_neg c1] at st
    cases c2 : hB n b j wNot with
    | true =>
      obtain ⟨-, -, -, -, -, w1, w2⟩ := hB_t c2
      rw [if_neg (show ¬ bI true = 0 by decide), hsk.1.2.1]
      rw [if_pos c2] at st
      obtain ⟨o1, o2⟩ := hsk.opens hC (by omega) 12 j
      by_cases c3 : d = 6
      · rw [if_pos c3] at st
        have hF := hsk.flt hC (k := 4) (by decide) j
        rw [o1 c3, bnv_s, m_asks_f hF.ne, bnv_s, IHt hF.ne]
        exact ⟨_, _, tch.st st, rfl, Or.inr ⟨4, j, rfl, hF.up (by decide)⟩⟩
      · rw [if_neg c3] at st
        obtain ⟨z2, o3, o4⟩ := o2 c3
        have ha := m_asks_v (w := 74) (W := wNot) rfl rfl (by decide) o4.1 o4.2.1
        rw [hjj, c2, if_pos rfl] at ha
        rw [o3, bnv_s, ha, bnv_s]
        exact IH (sWe n b j) (12 :: σ) C (d + 1) _ (ho.cons (by decide)) (o4.ed w2 (pv_we w1)) (by show C.length + (σ.length + 1) ≤ _; omega) (by omega) (tch.st st)
    | false =>
      rw [if_pos (show bI false = 0 by decide)]
      rw [if_neg (by rw [c2]; decide)] at st
      simp only [jn_s]
      have F := m_qFact_v hq ho.hd hsk (by omega) hjj
      have st : tSt n b q (0, i, σ, C, d) = match rFc n b q d j with
        | .inl g => qF g.1 g.2
        | .inr (c, e) => tE n b e σ (C ++ c) d := by
        rw [st]
        unfold rFc tStC
        cases c3 : hB n b j wAll with
        | true => rw [if_pos rfl, if_pos rfl]
        | false =>
          rw [if_neg (by decide), if_neg (by decide)]
          rfl
      cases qf : rFc n b q d j with
      | inl g =>
        rw [qf] at F st
        obtain ⟨z7, f1, f2⟩ := F
        rw [f1, bnv_s, m_qDropsNots_f f2.ne, bnv_s, if_neg f2.ne, IHf]
        exact ⟨_, _, tch.st st, rfl, Or.inr ⟨g.1, g.2, rfl, f2⟩⟩
      | inr p =>
        obtain ⟨c, e⟩ := p
        rw [qf] at F st
        obtain ⟨z7, f1, f2, f3, f4⟩ := F
        have he := f2.1.2.2.1
        obtain ⟨z8, v1, v2⟩ := m_qDropsNots_v f2 (by omega)
        have el := dnot_len σ (C ++ c) d
        have st : tSt n b q (0, i, σ, C, d) = (1, sSk n b e, dnot σ (C ++ c) d) := st
        have om : tOk (dnot σ (C ++ c) d).1 := fun x hx => ho x (dnot_mem _ _ _ x hx)
        rw [f1, bnv_s, v1, bnv_s, if_pos v2.2.1]
        obtain ⟨s2, r2, ⟨r, z11⟩, e2, p2⟩ := m_qGoesOnTest_v om v2 (by omega)
        rw [e2, bnd_s]
        have r1 := tch.st st
        rcases p2 with ⟨v0, i', σ2, C2, d2, v1, v2, v3, v5, v4⟩ | ⟨v0, j, σ2, C2, d2, v1, v2, v3⟩ | ⟨v0, kk, p, v1, v2⟩
        · have v0 : r = true := v0
          rw [v0, if_neg (show ¬ bI true = 0 by decide)]
          rw [v1] at r2
          exact IH i' σ2 C2 d2 z11 v5 v2 v3 (by omega) (r1.tr r2)
        · have v0 : r = false := v0
          rw [v0, if_pos (show bI false = 0 by decide), IHf]
          exact ⟨s2, z11, r1.tr r2, rfl, Or.inl ⟨j, σ2, C2, d2, v1, v2, v3⟩⟩
        · have v0 : r = false := v0
          rw [v0, if_pos (show bI false = 0 by decide), IHf]
          exact ⟨s2, z11, r1.tr r2, rfl, Or.inr ⟨kk, p, v1, v2⟩⟩
theorem test_D {j : Nat} (dm : MS → Option MS) : ∀ (m : Nat) (σ C : List Int32) (d : Nat) (z : MS), mQ n b q z0 j σ C d 0 z → C.length + σ.length ≤ 1600 → σ.length < m →
    ∃ z', fx m_qTest_L110 dm m z = some z' ∧ mQ n b q z0 j [] (C ++ σ) d 0 z'
  | 0, σ, C, d, z, _, _, h => absurd h (Nat.not_lt_zero _)
  | m + 1, σ, C, d, z, h, hl, hm => by
    have IH := test_D (j := j) dm m
    rw [fx_s]
    generalize fx m_qTest_L110 dm m = S at IH ⊢
    unfold m_qTest_L110
    rw [if_pos h.2.1, h.2.2.2.1.2.2.1]
    cases σ with
    | nil =>
      rw [if_pos (by decide)]
      refine ⟨z, rfl, ?_⟩
      rw [List.append_nil]
      exact h
    | cons x τ =>
      have hl : C.length + (τ.length + 1) ≤ 1600 := hl
      rw [if_neg (nI_nle (by show 0 < τ.length + 1; omega) (by show τ.length + 1 < _; omega))]
      obtain ⟨z1, q1, q2⟩ := h.drops (by omega) (by omega)
      rw [q1, bnv_s]
      obtain ⟨z2, p1, p2⟩ := IH τ (C ++ [x]) d z1 q2 (by rw [List.length_append]; show C.length + 1 + _ ≤ 1600; omega) (by have hm : τ.length + 1 < m + 1 := hm; omega)
      refine ⟨z2, p1, ?_⟩
      rw [show C ++ x :: τ = C ++ [x] ++ τ by simp]
      exact p2
/-- no more codes than bytes, in the machine -/
def qW (s : QM) : Nat := s.2.2.2.1.length + s.2.2.1.length
theorem tSt_len (s : QM) (h : (tSt n b q s).1 ≠ 3) : qW (tSt n b q s) + s.2.1 ≤ qW s + (tSt n b q s).2.1 := by
  obtain ⟨m, i, σ, C, d⟩ := s
  have hj := sSk_ge n b i
  have eE : ∀ e c, i + c.length ≤ e → qW (tE n b e σ (C ++ c) d) + i ≤ qW (m, i, σ, C, d) + (tE n b e σ (C ++ c) d).2.1 := by
    intro e c he
    have el := dnot_len σ (C ++ c) d
    rw [List.length_append] at el
    have := sSk_ge n b e
    show (dnot σ (C ++ c) d).2.1.length + (dnot σ (C ++ c) d).1.length + i ≤ C.length + σ.length + sSk n b e
    omega
  match m, h with
  | 0, h =>
    have e0 : tSt n b q (0, i, σ, C, d) = tStE n b q (sSk n b i) σ C d := rfl
    rw [e0] at h ⊢
    unfold tStE at h ⊢
    by_cases c1 : rB n b (sSk n b i) = 91
    · rw [if_pos c1] at h ⊢
      by_cases c2 : d = 6
      · rw [if_pos c2] at h; exact absurd rfl h
      · rw [if_neg c2]
        show C.length + (σ.length + 1) + i ≤ C.length + σ.length + (sSk n b i + 1)
        omega
    · rw [if_neg c1] at h ⊢
      cases c2 : hB n b (sSk n b i) wNot with
      | true =>
        rw [c2, if_pos rfl] at h
        rw [if_pos rfl]
        obtain ⟨-, -, -, -, -, w1, -⟩ := hB_t c2
        by_cases c3 : d = 6
        · rw [if_pos c3] at h; exact absurd rfl h
        · rw [if_neg c3]
          show C.length + (σ.length + 1) + i ≤ C.length + σ.length + sWe n b (sSk n b i)
          omega
      | false =>
        rw [c2, if_neg (show ¬ (false = true) by decide)] at h
        rw [if_neg (show ¬ (false = true) by decide)]
        cases c3 : hB n b (sSk n b i) wAll with
        | true =>
          rw [if_pos rfl]
          obtain ⟨-, -, -, -, -, w1, -⟩ := hB_t c3
          exact eE _ [13] (by show i + 1 ≤ _; omega)
        | false =>
          rw [c3, if_neg (show ¬ (false = true) by decide)] at h
          rw [if_neg (show ¬ (false = true) by decide)]
          unfold tStC at h ⊢
          cases qc : rCmp n b (rSum n b q (6 - d)) (sSk n b i) with
          | inl g => rw [qc] at h; exact absurd rfl h
          | inr p =>
            obtain ⟨c, e⟩ := p
            have := rCmp_pc (rSum_pc (n := n) (b := b) q (6 - d)) qc
            exact eE e c (by omega)
  | 1, h =>
    have e0 : tSt n b q (1, i, σ, C, d) = tStG n b (sSk n b i) σ C d := rfl
    rw [e0] at h ⊢
    unfold tStG at h ⊢
    by_cases c1 : rB n b (sSk n b i) = 93 ∧ has25 σ = true
    · rw [if_pos c1]
      have sl := spq_len σ c1.2
      have el := dnot_len (spq σ).2 (C ++ (spq σ).1) (d - 1)
      rw [List.length_append] at el
      have := sSk_ge n b (sSk n b i + 1)
      show (dnot (spq σ).2 (C ++ (spq σ).1) (d - 1)).2.1.length + (dnot (spq σ).2 (C ++ (spq σ).1) (d - 1)).1.length + i ≤ C.length + σ.length + sSk n b (sSk n b i + 1)
      omega
    · rw [if_neg c1] at h ⊢
      cases c2 : hB n b (sSk n b i) wAnd with
      | true =>
        rw [if_pos rfl]
        obtain ⟨-, -, -, -, -, w1, -⟩ := hB_t c2
        have pl := popW_len is10 σ C
        show (popW is10 σ C).2.length + ((popW is10 σ C).1.length + 1) + i ≤ C.length + σ.length + sWe n b (sSk n b i)
        omega
      | false =>
        rw [c2, if_neg (show ¬ (false = true) by decide)] at h
        rw [if_neg (show ¬ (false = true) by decide)]
        cases c3 : hB n b (sSk n b i) wOr with
        | true =>
          rw [if_pos rfl]
          obtain ⟨-, -, -, -, -, w1, -⟩ := hB_t c3
          have pl := popW_len is11 σ C
          show (popW is11 σ C).2.length + ((popW is11 σ C).1.length + 1) + i ≤ C.length + σ.length + sWe n b (sSk n b i)
          omega
        | false =>
          rw [c3, if_neg (show ¬ (false = true) by decide)] at h
          rw [if_neg (show ¬ (false = true) by decide)]
          cases c4 : has25 σ with
          | true => rw [c4, if_pos rfl] at h; exact absurd rfl h
          | false =>
            rw [if_neg (show ¬ (false = true) by decide)]
            show (C ++ σ).length + 0 + i ≤ C.length + σ.length + sSk n b i
            rw [List.length_append]
            omega
  | m + 2, h => exact Nat.le_refl _
theorem tN_len : ∀ (k : Nat) (s : QM), (tN n b q k s).1 ≠ 3 → qW (tN n b q k s) + s.2.1 ≤ qW s + (tN n b q k s).2.1
  | 0, s, _ => Nat.le_refl _
  | k + 1, s, h => by
    have h : (tN n b q k (tSt n b q s)).1 ≠ 3 := h
    have h3 : (tSt n b q s).1 ≠ 3 := by
      intro e
      obtain ⟨m, t⟩ : ∃ m : QM, m = tSt n b q s := ⟨_, rfl⟩
      rw [← t] at h e
      obtain ⟨m1, m2⟩ := m
      have e : m1 = 3 := e
      subst e
      rw [tN_end k 1 m2] at h
      exact h rfl
    have h1 := tSt_len (n := n) (b := b) (q := q) s h3
    have h2 := tN_len k (tSt n b q s) h
    show qW (tN n b q k (tSt n b q s)) + s.2.1 ≤ qW s + (tN n b q k (tSt n b q s)).2.1
    omega
/-- a test, as a whole -/
theorem m_qTest_v (hq : q < 3) {i : Nat} {z : MS} (h : mQ n b q z0 i [] [] 0 0 z) :
    match rTest n b q 6 i with
    | .inl g => ∃ z', m_qTest z = some z' ∧ (mQF z0 g.1 g.2 1602 z' ∨ (g.1 = 1 ∧ isL (rB n b g.2) = true ∧ pv b g.2 = true ∧ sSk n b g.2 = g.2 ∧ ∃ C' d', mQ n b q z0 g.2 [] C' d' 0 z' ∧ i + C'.length ≤ g.2))
    | .inr (c, e) => ∃ z', m_qTest z = some z' ∧ mQ n b q z0 e [] c 0 0 z' ∧ i + c.length ≤ e ∧ sSk n b e = e := by
  have hn := h.1.1.1
  have T := t_test (n := n) (b := b) (q := q) i
  unfold m_qTest
  simp only [jn_s]
  obtain ⟨s', z', r1, e1, p1⟩ := test_L hq (fun z1 => fx m_qTest_L110 (fun _ => none) FU z1) (fun _ _ => none) FU i [] [] 0 z (fun x hx => absurd hx (by simp)) h (by show 0 + 0 ≤ i; omega) (FU_gt (by omega))
  rw [e1]
  rcases p1 with ⟨j, σ', C', d', u1, u2, u3⟩ | ⟨kk, p, u1, u2⟩
  · have hjn := u2.1.2.2.1
    obtain ⟨z2, v1, v2⟩ := test_D (fun _ => none) FU σ' C' d' z' u2 (by omega) (FU_gt (by omega))
    rw [v1]
    rw [u1] at r1
    have len : i + (C' ++ σ').length ≤ j := by
      obtain ⟨kk, hk⟩ := r1
      have := tN_len (n := n) (b := b) (q := q) kk (0, i, [], [], 0) (by rw [hk]; show (2 : Nat) ≠ 3; decide)
      rw [hk] at this
      have this : (C' ++ σ').length + 0 + i ≤ 0 + 0 + j := this
      omega
    cases qs : rTest n b q 6 i with
    | inl g =>
      rw [qs] at T
      rcases T with T | ⟨T1, T2, T3, T4, T5, C2, T6⟩
      · have := tch.eq (m := 0) (m' := 1) r1 T
        cases this
      · have E : ((2, j, [], C' ++ σ', d') : QM) = (2, g.2, [], C2, 0) := tch.eq (m := 0) (m' := 0) r1 T6
        have E1 : j = g.2 := congrArg (fun s : QM => s.2.1) E
        rw [← E1] at T3 T4 T5
        refine ⟨z2, rfl, Or.inr ⟨T2, by rw [← E1]; exact T3, by rw [← E1]; exact T4, by rw [← E1]; exact T5, C' ++ σ', d', by rw [← E1]; exact v2, ?_⟩⟩
        rw [← E1]
        exact len
    | inr p =>
      obtain ⟨c, e⟩ := p
      rw [qs] at T
      obtain ⟨T1, T2⟩ := T
      have E : ((2, j, [], C' ++ σ', d') : QM) = (2, e, [], c, 0) := tch.eq (m := 0) (m' := 0) r1 T1
      have E1 : j = e := congrArg (fun s : QM => s.2.1) E
      have E2 : C' ++ σ' = c := congrArg (fun s : QM => s.2.2.2.1) E
      have E3 : d' = 0 := congrArg (fun s : QM => s.2.2.2.2) E
      rw [E1, E2, E3] at v2
      refine ⟨z2, rfl, v2, ?_, T2⟩
      rw [← E2, ← E1]
      exact len
  · rw [show fx m_qTest_L110 (fun _ => none) FU z' = some z' by
      rw [fx_FU]
      unfold m_qTest_L110
      rw [if_neg u2.ne]]
    rw [u1] at r1
    cases qs : rTest n b q 6 i with
    | inl g =>
      rw [qs] at T
      rcases T with T | ⟨T1, T2, T3, T4, T5, C2, T6⟩
      · have E : ((3, p, [], [], kk) : QM) = (3, g.2, [], [], g.1) := tch.eq (m := 1) (m' := 1) r1 T
        have E1 : p = g.2 := congrArg (fun s : QM => s.2.1) E
        have E2 : kk = g.1 := congrArg (fun s : QM => s.2.2.2.2) E
        rw [E1, E2] at u2
        exact ⟨_, rfl, Or.inl u2⟩
      · have := tch.eq (m := 1) (m' := 0) r1 T6
        cases this
    | inr pp =>
      obtain ⟨c, e⟩ := pp
      rw [qs] at T
      have := tch.eq (m := 1) (m' := 0) r1 T.1
      cases this
end RL
