/-! PART 19: plain: the Model goes on: brackets closed; sums -/
set_option maxRecDepth 100000
section RJ
variable {n : Nat} {b : Nat → Nat} {q : Nat} {z0 : MS} {σ0 : List Int32}
theorem goes_L (h0 : ∀ x τ, σ0 = x :: τ → isOp x = false) (dm : MS → Option (Bool × MS)) : ∀ (m a : Nat) (σ C : List Int32) (d : Nat) (z : MS), mQ n b q z0 a (σ ++ σ0) C d σ0.length z → C.length + (σ ++ σ0).length ≤ a → n - a < m →
    ∃ s', rch n b q (1, sSk n b a, σ, C, d) s' ∧ Ok (fx (m_qGoesOn_L0 qGK) dm m z) (qGo n b q z0 σ0 a s')
  | 0, a, σ, C, d, z, _, _, h => absurd h (Nat.not_lt_zero _)
  | m + 1, a, σ, C, d, z, h, hl, hm => by
    have hn := h.1.1.1
    have han := h.1.2.2.1
    have hsk := h.sk
    have hj1 := sSk_ge n b a
    have hj2 := sSk_le b han
    have hjj := sSk_id n b a
    have st : qSt n b q (1, sSk n b a, σ, C, d) = qStG n b (sSk n b (sSk n b a)) σ C d := rfl
    rw [hjj] at st
    have IH := goes_L h0 dm m
    rw [fx_s]
    generalize fx (m_qGoesOn_L0 qGK) dm m = S at IH ⊢
    unfold m_qGoesOn_L0
    rw [if_pos h.2.1, m_look_v h.1, bnd_s]
    generalize wI z 2 (nI (sSk n b a)) = z1 at hsk
    generalize sSk n b a = j at hsk st hj1 hj2 hjj
    have hl6 : C.length + (σ ++ σ0).length ≤ 1600 := by omega
    by_cases c1 : rB n b j = 41
    · rw [if_pos (show rI n b j = 41 from (rI_eq h.1.1 j (s := 41) (by decide)).mpr c1), m_qBracket_v hsk (by omega), bnd_s, jn_s]
      obtain ⟨b1, b2⟩ := rB_lt c1 (by decide)
      have sl := spl_len σ
      by_cases cx : ∃ x τ, (spl σ).2 = x :: τ ∧ (x = 20 ∨ x = 23 ∨ x = 24)
      · obtain ⟨x, τ, e1, e2⟩ := cx
        have eb : brI σ = x := by unfold brI; rw [e1]
        rw [e1] at sl
        have sl : (spl σ).1.length + (τ.length + 1) = σ.length := sl
        unfold qStG at st
        rw [e1] at st
        have st : qSt n b q (1, j, σ, C, d) = qE n b (j + 1) τ (C ++ (spl σ).1 ++ (if x = 20 then [] else if x = 23 then [5] else [6])) (d - 1) := by
          rw [st]
          show (if rB n b j = 41 ∧ (x = 20 ∨ x = 23 ∨ x = 24) then _ else _) = _
          rw [if_pos ⟨c1, e2⟩]
        -- the closing
        have cl : ∃ s', rch n b q (1, j, σ, C, d) s' ∧ Ok (nm (wI z1 2 ((mI z1 2) + 1)) fun z40 =>
            bnv (m_qDropsToBracket z40) fun z41 =>
            nm (wI z41 96 ((mI z41 96) - 1)) fun z42 =>
            nm (wI z42 97 ((mI z42 97) - 1)) fun z43 =>
            ck (inb (mI z43 96) (mN 95)) <|
            jn (fun (z44 : MS) =>
              bnv (m_qEndsPart z44) fun z45 =>
              S z45) fun j115 =>
            if (mA z43 95 (Int32.toNatClampNeg (mI z43 96))) = 20 then
              j115 z43
            else
              ck (inb (mI z43 96) (mN 95)) <|
              jn (fun (x3 : Int32) (z46 : MS) =>
                bnv (m_qCode x3 z46) fun z47 =>
                j115 z47) fun j112 =>
              if (mA z43 95 (Int32.toNatClampNeg (mI z43 96))) = 23 then
                j112 5 z43
              else
                j112 6 z43) (qGo n b q z0 σ0 a s') := by
          rw [nm_s, hsk.1.2.1, nI_1]
          have g1 := hsk.sg b1 (Nat.le_refl _) (by rw [b2]; decide)
          obtain ⟨z41, d1, d2⟩ := m_qDropsToBracket_v g1 hl6
          rw [e1] at d2
          rw [List.length_append] at hl hl6
          obtain ⟨t1, t2, t3, t4⟩ := mQ.top (σ := τ ++ σ0) (x := x) d2 (by rw [List.length_append]; omega)
          obtain ⟨p1, p2⟩ := mQ.popo (σ := τ ++ σ0) (x := x) d2 (by rcases e2 with rfl | rfl | rfl <;> decide) (z' := wI (wI z41 96 (nI (τ ++ σ0).length)) 97 (nI (d - 1))) (Or.inl rfl)
          rw [d1, bnv_s, nm_s, nm_s, t1, mI_ne _ (show (97 : Nat) ≠ 96 by decide), d2.2.2.2.1.2.2.2.2.1, nI_m1 p2, mI_ne _ (show (96 : Nat) ≠ 97 by decide), mI_eq, ck_t t2, t3]
          have t5 : mA (wI (wI z41 96 (nI (τ ++ σ0).length)) 97 (nI (d - 1))) 95 (τ ++ σ0).length = x := t4
          simp only [jn_s]
          rw [t5, ck_t t2]
          generalize wI (wI z41 96 (nI (τ ++ σ0).length)) 97 (nI (d - 1)) = z43 at p1
          have fin : ∀ (y : List Int32) (z44 : MS), y.length ≤ 1 → y = (if x = 20 then [] else if x = 23 then [5] else [6]) → mQ n b q z0 (j + 1) (τ ++ σ0) (C ++ (spl σ).1 ++ y) (d - 1) σ0.length z44 →
              ∃ s', rch n b q (1, j, σ, C, d) s' ∧ Ok (bnv (m_qEndsPart z44) fun z45 => S z45) (qGo n b q z0 σ0 a s') := by
            intro y z44 hy1 hy2 g
            obtain ⟨z45, v1, v2⟩ := m_qEndsPart_v g (by rw [List.length_append, List.length_append, List.length_append]; omega)
            have el := endp_len τ (C ++ (spl σ).1 ++ y) (d - 1)
            rw [List.length_append, List.length_append] at el
            rw [v1, bnv_s]
            obtain ⟨s', r1, r2⟩ := IH (j + 1) _ _ _ z45 v2 (by rw [List.length_append]; omega) (by omega)
            rw [← hy2] at st
            refine ⟨s', (rch.st st).tr r1, r2.mono (fun r hr => ?_)⟩
            rcases hr with ⟨u0, i', σ', C', d', u1, u2, u3, u4⟩ | hr | hr
            · exact Or.inl ⟨u0, i', σ', C', d', u1, u2, u3, by omega⟩
            · exact Or.inr (Or.inl hr)
            · exact Or.inr (Or.inr hr)
          by_cases x20 : x = 20
          · rw [if_pos x20]
            exact fin [] z43 (by decide) (by rw [if_pos x20]) (by rw [List.append_nil]; exact p1)
          · rw [if_neg x20]
            by_cases x23 : x = 23
            · rw [if_pos x23]
              obtain ⟨z47, v1, v2⟩ := p1.code (by rw [List.length_append]; omega) 5
              rw [v1, bnv_s]
              exact fin [5] z47 (by decide) (by rw [if_neg x20, if_pos x23]) v2
            · rw [if_neg x23]
              obtain ⟨z47, v1, v2⟩ := p1.code (by rw [List.length_append]; omega) 6
              rw [v1, bnv_s]
              exact fin [6] z47 (by decide) (by rw [if_neg x20, if_neg x23]) v2
        rw [eb]
        by_cases x20 : x = 20
        · rw [if_pos x20]; exact cl
        · rw [if_neg x20, m_qBracket_v hsk (by omega), bnd_s, eb]
          by_cases x23 : x = 23
          · rw [if_pos x23]; exact cl
          · have x24 : x = 24 := e2.elim (fun g => absurd g x20) (fun g => g.elim (fun g => absurd g x23) id)
            rw [if_neg x23, m_qBracket_v hsk (by omega), bnd_s, eb, if_pos x24]
            exact cl
      · have st2 : qSt n b q (1, j, σ, C, d) = qStG2 (rB n b j) j σ C d := by
          rw [st]
          unfold qStG
          cases e : (spl σ).2 with
          | nil => rfl
          | cons x τ =>
            show (if rB n b j = 41 ∧ (x = 20 ∨ x = 23 ∨ x = 24) then _ else _) = _
            rw [if_neg (fun g => cx ⟨x, τ, e, g.2⟩)]
        have nb : ∀ y : Int32, (y = 20 ∨ y = 23 ∨ y = 24) → ¬ brI σ = y := by
          intro y hy g
          unfold brI at g
          cases e : (spl σ).2 with
          | nil =>
            rw [e] at g
            have g : (-1 : Int32) = y := g
            rcases hy with rfl | rfl | rfl <;> exact absurd g (by decide)
          | cons x τ =>
            rw [e] at g
            have g : x = y := g
            exact cx ⟨x, τ, e, by rw [g]; exact hy⟩
        rw [if_neg (nb 20 (Or.inl rfl)), m_qBracket_v hsk (by omega), bnd_s, if_neg (nb 23 (Or.inr (Or.inl rfl))), m_qBracket_v hsk (by omega), bnd_s, if_neg (nb 24 (Or.inr (Or.inr rfl)))]
        exact ⟨_, rch.st st2, goes2 h0 hsk (by omega) hj1 hjj⟩
    · rw [if_neg (show ¬ rI n b j = 41 from fun g => c1 ((rI_eq h.1.1 j (s := 41) (by decide)).mp g))]
      rw [qStG_2 c1] at st
      exact ⟨_, rch.st st, goes2 h0 hsk (by omega) hj1 hjj⟩
theorem m_qGoesOn_v (h0 : ∀ x τ, σ0 = x :: τ → isOp x = false) {a : Nat} {σ C : List Int32} {d : Nat} {z : MS} (h : mQ n b q z0 a (σ ++ σ0) C d σ0.length z) (hl : C.length + (σ ++ σ0).length ≤ a) :
    ∃ s', rch n b q (1, sSk n b a, σ, C, d) s' ∧ Ok (m_qGoesOn z) (qGo n b q z0 σ0 a s') :=
  goes_L h0 (fun _ => none) FU a σ C d z h hl (FU_gt (by have := h.1.1.1; omega))
theorem mQ.base {i : Nat} {σ C : List Int32} {d bs : Nat} {z : MS} (h : mQ n b q z0 i σ C d bs z) (bs' : Nat) : mQ n b q z0 i σ C d bs' (wI z 98 (nI bs')) := by
  obtain ⟨h1, h2, h3, ⟨k1, k2, k3, k4, k5, k6, k7⟩, h4⟩ := h
  refine ⟨h1.oth rfl (fun a ha => mI_ne _ (by omega) _), ?_, ?_, ⟨?_, k2, ?_, k4, ?_, mI_eq _ _ _, k7⟩, h4.tr (mQf.int _ (by decide) _)⟩
  · rw [mI_ne _ (by decide)]; exact h2
  · rw [mI_ne _ (by decide)]; exact h3
  · rw [mI_ne _ (by decide)]; exact k1
  · rw [mI_ne _ (by decide)]; exact k3
  · rw [mI_ne _ (by decide)]; exact k5
theorem sums_f (k : MS → Option MS) (dm : Bool → MS → Option MS) (m : Nat) (z : MS) : fx (m_qSums_L15 k) dm (m + 1) false z = k z := by
  rw [fx_s]
  unfold m_qSums_L15
  rw [if_pos (by decide)]
theorem sums_L (hq : q < 3) (h0 : ∀ x τ, σ0 = x :: τ → isOp x = false) (k : MS → Option MS) (dm : Bool → MS → Option MS) : ∀ (m i : Nat) (σ C : List Int32) (d : Nat) (z : MS), mQ n b q z0 i (σ ++ σ0) C d σ0.length z → C.length + (σ ++ σ0).length ≤ i → n - i + 1 < m →
    ∃ s' z', rch n b q (0, i, σ, C, d) s' ∧ fx (m_qSums_L15 k) dm m true z = k z' ∧ ((∃ j σ' C' d', s' = (2, j, [], C' ++ σ', d') ∧ mQ n b q z0 j (σ' ++ σ0) C' d' σ0.length z' ∧ C'.length + (σ' ++ σ0).length ≤ j) ∨ ∃ kk p, s' = qF kk p ∧ mQF z0 kk p 1601 z')
  | 0, i, σ, C, d, z, _, _, h => absurd h (Nat.not_lt_zero _)
  | m + 1, i, σ, C, d, z, h, hl, hm => by
    have hn := h.1.1.1
    obtain ⟨m, rfl⟩ : ∃ m', m = m' + 1 := ⟨m - 1, by omega⟩
    have IH := sums_L hq h0 k dm (m + 1)
    have IHf := sums_f k dm m
    rw [fx_s]
    generalize fx (m_qSums_L15 k) dm (m + 1) = S at IH IHf ⊢
    unfold m_qSums_L15
    rw [if_neg (show ¬ bI true = 0 by decide), if_pos h.2.1]
    simp only [jn_s]
    obtain ⟨s1, r1, z8, e1, p1⟩ := m_qPartTold_v hq h hl
    rw [e1, bnv_s]
    rcases p1 with ⟨a, σ', C', d', u1, u2, u3, u4⟩ | ⟨kk, p, u1, u2⟩
    · rw [if_pos u2.2.1]
      obtain ⟨s2, r2, ⟨r, z11⟩, e2, p2⟩ := m_qGoesOn_v h0 u2 u3
      rw [e2, bnd_s]
      rw [u1] at r1
      rcases p2 with ⟨v0, i', σ2, C2, d2, v1, v2, v3, v4⟩ | ⟨v0, j, σ2, C2, d2, v1, v2, v3⟩ | ⟨v0, kk, p, v1, v2⟩
      · have v0 : r = true := v0
        rw [v0, if_neg (show ¬ bI true = 0 by decide)]
        have := v2.1.2.2.1
        obtain ⟨s3, z', r3, e3, p3⟩ := IH i' σ2 C2 d2 z11 v2 v3 (by omega)
        rw [v1] at r2
        exact ⟨s3, z', (r1.tr r2).tr r3, e3, p3⟩
      · have v0 : r = false := v0
        rw [v0, if_pos (show bI false = 0 by decide), IHf]
        exact ⟨s2, z11, r1.tr r2, rfl, Or.inl ⟨j, σ2, C2, d2, v1, v2, v3⟩⟩
      · have v0 : r = false := v0
        rw [v0, if_pos (show bI false = 0 by decide), IHf]
        exact ⟨s2, z11, r1.tr r2, rfl, Or.inr ⟨kk, p, v1, v2⟩⟩
    · rw [if_neg u2.ne, IHf]
      exact ⟨s1, z8, r1, rfl, Or.inr ⟨kk, p, u1, u2⟩⟩
theorem sums_D (k : MS → Option MS) (dm : MS → Option MS) {j : Nat} : ∀ (m : Nat) (σ C : List Int32) (d : Nat) (z : MS), mQ n b q z0 j (σ ++ σ0) C d σ0.length z → C.length + (σ ++ σ0).length ≤ 1600 → σ.length < m →
    ∃ z', fx (m_qSums_L53 k) dm m z = k z' ∧ mQ n b q z0 j σ0 (C ++ σ) d σ0.length z'
  | 0, σ, C, d, z, _, _, h => absurd h (Nat.not_lt_zero _)
  | m + 1, σ, C, d, z, h, hl, hm => by
    have IH := sums_D k dm (j := j) m
    rw [fx_s]
    generalize fx (m_qSums_L53 k) dm m = S at IH ⊢
    unfold m_qSums_L53
    rw [if_pos h.2.1, h.2.2.2.1.2.2.1, h.2.2.2.1.2.2.2.2.2.1]
    cases σ with
    | nil =>
      rw [if_pos (by exact nI_le (Nat.le_refl _) (by rw [List.length_append] at hl; omega))]
      refine ⟨z, rfl, ?_⟩
      rw [List.append_nil]
      exact h
    | cons x τ =>
      have hl : C.length + ((τ ++ σ0).length + 1) ≤ 1600 := hl
      rw [if_neg (nI_ge (show σ0.length < (x :: τ ++ σ0).length by show _ < (τ ++ σ0).length + 1; rw [List.length_append]; omega) (by show (τ ++ σ0).length + 1 < _; omega))]
      obtain ⟨z1, q1, q2⟩ := mQ.drops (σ := τ ++ σ0) (x := x) h (by omega) (by omega)
      rw [q1, bnv_s]
      obtain ⟨z2, p1, p2⟩ := IH τ (C ++ [x]) d z1 q2 (by rw [List.length_append (as := C)]; show C.length + 1 + _ ≤ 1600; omega) (by have hm : τ.length + 1 < m + 1 := hm; omega)
      refine ⟨z2, p1, ?_⟩
      rw [show C ++ x :: τ = C ++ [x] ++ τ by simp]
      exact p2
/-- sums, as a whole -/
theorem m_qSums_v (hq : q < 3) {i : Nat} {σ C : List Int32} {d bs : Nat} {z : MS} (h0 : ∀ x τ, σ = x :: τ → isOp x = false) (h : mQ n b q z0 i σ C d bs z) (hl : C.length + σ.length ≤ i) :
    match rSum n b q (6 - d) i with
    | .inl g => ∃ z', m_qSums z = some z' ∧ mQF z0 g.1 g.2 1601 z'
    | .inr (c, e) => ∃ z', m_qSums z = some z' ∧ mQ n b q z0 e σ (C ++ c) d bs z' ∧ (C ++ c).length + σ.length ≤ e ∧ sSk n b e = e := by
  have hn := h.1.1.1
  have hd : d ≤ 6 := h.2.2.2.1.2.2.2.2.2.2.2
  have h98 := h.2.2.2.1.2.2.2.2.2.1
  have hb := h.base σ.length
  have S := q_sum (n := n) (b := b) (q := q) (r := 6 - d) (d := d) (by omega) i C
  unfold m_qSums
  rw [nm_s, h.2.2.2.1.2.2.1]
  simp only [jn_s]
  obtain ⟨s', z', r1, e1, p1⟩ := sums_L (σ0 := σ) hq h0 (fun z2 => fx (m_qSums_L53 (fun z3 => nm (wI z3 98 (mI z 98)) fun z4 => some z4)) (fun _ => none) FU z2) (fun _ _ => none) FU i [] C d _ hb hl (FU_gt (by omega))
  rw [e1]
  rcases p1 with ⟨j, σ', C', d', u1, u2, u3⟩ | ⟨kk, p, u1, u2⟩
  · have hjn := u2.1.2.2.1
    obtain ⟨z2, v1, v2⟩ := sums_D (fun z3 => nm (wI z3 98 (mI z 98)) fun z4 => some z4) (fun _ => none) FU σ' C' d' z' u2 (by omega) (FU_gt (by rw [List.length_append] at u3; omega))
    rw [v1]
    subst u1
    cases qs : rSum n b q (6 - d) i with
    | inl g =>
      rw [qs] at S
      have := rch.eq (m := 0) (m' := 1) r1 S
      cases this
    | inr p =>
      obtain ⟨c, e⟩ := p
      rw [qs] at S
      obtain ⟨S1, S2⟩ := S
      have E : ((2, j, [], C' ++ σ', d') : QM) = (2, e, [], C ++ c, d) := rch.eq (m := 0) (m' := 0) r1 S1
      have E1 : j = e := congrArg (fun s : QM => s.2.1) E
      have E2 : C' ++ σ' = C ++ c := congrArg (fun s : QM => s.2.2.2.1) E
      have E3 : d' = d := congrArg (fun s : QM => s.2.2.2.2) E
      rw [E1, E2, E3] at v2
      refine ⟨wI z2 98 (mI z 98), rfl, ?_, ?_, S2⟩
      · rw [h98]
        exact v2.base bs
      · rw [← E2, ← E1]
        rw [List.length_append] at u3 ⊢
        omega
  · rw [show fx (m_qSums_L53 (fun z3 => nm (wI z3 98 (mI z 98)) fun z4 => some z4)) (fun _ => none) FU z' = some (wI z' 98 (mI z 98)) by
      rw [fx_FU]
      unfold m_qSums_L53
      rw [if_neg u2.ne]
      rfl]
    subst u1
    cases qs : rSum n b q (6 - d) i with
    | inl g =>
      rw [qs] at S
      have E : ((3, p, [], [], kk) : QM) = (3, g.2, [], [], g.1) := rch.eq (m := 1) (m' := 1) r1 S
      have E1 : p = g.2 := congrArg (fun s : QM => s.2.1) E
      have E2 : kk = g.1 := congrArg (fun s : QM => s.2.2.2.2) E
      rw [E1, E2] at u2
      exact ⟨_, rfl, u2.int (by decide) _⟩
    | inr pp =>
      obtain ⟨c, e⟩ := pp
      rw [qs] at S
      have := rch.eq (m := 1) (m' := 0) r1 S.1
      cases this
end RJ
