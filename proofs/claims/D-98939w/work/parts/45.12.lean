/-! PART 12: plain: brackets and atoms of the machine, and a sum as a whole -/
set_option maxRecDepth 100000
section RCH2
variable {n : Nat} {b : Nat → Nat} {q : Nat}
def extB (x : Int32) : List Int32 := if x = 20 then [] else if x = 23 then [5] else [6]
theorem ops_br {ρ : List Int32} (h : ∀ x, x ∈ ρ → isOp x = true) : ∀ y, y ∈ ρ → isBr y = false := fun y hy => op_br y (h y hy)
theorem q_close {e d : Nat} {ρ σ C' : List Int32} {x : Int32} (hx : x = 20 ∨ x = 23 ∨ x = 24) (hs : sSk n b e = e) (hρ : ∀ x, x ∈ ρ → isOp x = true) (hm : opM (rB n b e) = none) (ha : opA (rB n b e) = none) :
    match rMust n b 41 e with
    | .inl g => rch n b q (1, e, ρ ++ x :: σ, C', d + 1) (qF g.1 g.2)
    | .inr (_, e2) => rch n b q (1, e, ρ ++ x :: σ, C', d + 1) (qE n b e2 σ (C' ++ ρ ++ extB x) d) := by
  have hb : isBr x = true := by rcases hx with rfl | rfl | rfl <;> decide
  have sp := spl_app ρ x σ (ops_br hρ) hb
  unfold rMust
  rw [hs]
  by_cases c : rB n b e = 41
  · rw [if_pos c]
    refine rch.st ?_
    show qStG n b (sSk n b e) (ρ ++ x :: σ) C' (d + 1) = _
    rw [hs]
    unfold qStG
    rw [sp]
    show (if rB n b e = 41 ∧ (x = 20 ∨ x = 23 ∨ x = 24) then _ else _) = _
    rw [if_pos ⟨c, hx⟩]
    rfl
  · rw [if_neg c]
    refine rch.st ?_
    show qStG n b (sSk n b e) (ρ ++ x :: σ) C' (d + 1) = _
    rw [hs, qStG_2 c]
    unfold qStG2
    rw [if_neg (opM_none hm), if_neg (opA_none ha), sp]
    show (if x = 21 ∨ x = 22 then _ else _) = _
    rw [if_neg (by rcases hx with rfl | rfl | rfl <;> decide)]
theorem q_comma {e d : Nat} {ρ σ C' : List Int32} {x : Int32} (hx : x = 21 ∨ x = 22) (hs : sSk n b e = e) (hρ : ∀ x, x ∈ ρ → isOp x = true) (hm : opM (rB n b e) = none) (ha : opA (rB n b e) = none) :
    match rMust n b 44 e with
    | .inl g => rch n b q (1, e, ρ ++ x :: σ, C', d) (qF g.1 g.2)
    | .inr (_, e2) => rch n b q (1, e, ρ ++ x :: σ, C', d) (0, e2, (x + 2) :: σ, C' ++ ρ, d) := by
  have hb : isBr x = true := by rcases hx with rfl | rfl <;> decide
  have sp := spl_app ρ x σ (ops_br hρ) hb
  have st : qSt n b q (1, e, ρ ++ x :: σ, C', d) = (if rB n b e = 44 then (0, e + 1, (x + 2) :: σ, C' ++ ρ, d) else qF 1 e) := by
    show qStG n b (sSk n b e) (ρ ++ x :: σ) C' d = _
    rw [hs]
    unfold qStG
    rw [sp]
    show (if rB n b e = 41 ∧ (x = 20 ∨ x = 23 ∨ x = 24) then _ else qStG2 (rB n b e) e (ρ ++ x :: σ) C' d) = _
    rw [if_neg (by rcases hx with rfl | rfl <;> exact fun q => absurd q.2 (by decide))]
    unfold qStG2
    rw [if_neg (opM_none hm), if_neg (opA_none ha), sp]
    show (if x = 21 ∨ x = 22 then _ else _) = _
    rw [if_pos hx]
  unfold rMust
  rw [hs]
  by_cases c : rB n b e = 44
  · rw [if_pos c]
    rw [if_pos c] at st
    exact rch.st st
  · rw [if_neg c]
    rw [if_neg c] at st
    exact rch.st st
theorem tpB_br {x : Int32} {σ : List Int32} (hx : x = 20 ∨ x = 21 ∨ x = 22 ∨ x = 23 ∨ x = 24) : tpB (x :: σ) := by
  intro y τ e
  cases e
  rcases hx with rfl | rfl | rfl | rfl | rfl <;> decide
/-- one within brackets, to the closing -/
theorem q_in {sum : Nat → RS (List Int32)} {d : Nat} (hsum : qSu n b q sum (d + 1)) {x : Int32} (hx : x = 20 ∨ x = 23 ∨ x = 24) (i : Nat) (σ C : List Int32) :
    match sbd (sum i) (fun c1 e1 => sbd (rMust n b 41 e1) fun _ e2 => (.inr (c1 ++ extB x, e2) : RS (List Int32))) with
    | .inl g => rch n b q (0, i, x :: σ, C, d + 1) (qF g.1 g.2)
    | .inr (c, e) => rch n b q (0, i, x :: σ, C, d + 1) (qE n b e σ (C ++ c) d) := by
  have h1 := hsum i (x :: σ) C (tpB_br (by rcases hx with h | h | h <;> simp [h]))
  cases q1 : sum i with
  | inl g => rw [q1] at h1; exact h1
  | inr p =>
    obtain ⟨c, e⟩ := p
    rw [q1] at h1
    obtain ⟨ρ, C', a1, a2, a3, a4, a5, a6⟩ := h1
    have h2 := q_close (n := n) (b := b) (q := q) (d := d) (σ := σ) (C' := C') hx a4 a2 a5 a6
    rw [sbd_r]
    cases q2 : rMust n b 41 e with
    | inl g =>
      rw [q2] at h2
      exact a1.tr h2
    | inr p =>
      obtain ⟨u, e2⟩ := p
      rw [q2] at h2
      have h2 : rch n b q (1, e, ρ ++ x :: σ, C', d + 1) (qE n b e2 σ (C' ++ ρ ++ extB x) d) := h2
      rw [a3, List.append_assoc] at h2
      exact a1.tr h2
/-- two within brackets -/
theorem q_in2 {sum : Nat → RS (List Int32)} {d : Nat} (hsum : qSu n b q sum (d + 1)) {x : Int32} (hx : x = 21 ∨ x = 22) (i : Nat) (σ C : List Int32) :
    match sbd (sum i) (fun c1 e1 => sbd (rMust n b 44 e1) fun _ e2 => sbd (sum e2) fun c2 e3 => sbd (rMust n b 41 e3) fun _ e4 => (.inr (c1 ++ c2 ++ extB (x + 2), e4) : RS (List Int32))) with
    | .inl g => rch n b q (0, i, x :: σ, C, d + 1) (qF g.1 g.2)
    | .inr (c, e) => rch n b q (0, i, x :: σ, C, d + 1) (qE n b e σ (C ++ c) d) := by
  have h1 := hsum i (x :: σ) C (tpB_br (by rcases hx with h | h <;> simp [h]))
  cases q1 : sum i with
  | inl g => rw [q1] at h1; exact h1
  | inr p =>
    obtain ⟨c, e⟩ := p
    rw [q1] at h1
    obtain ⟨ρ, C', a1, a2, a3, a4, a5, a6⟩ := h1
    have h2 := q_comma (n := n) (b := b) (q := q) (d := d + 1) (σ := σ) (C' := C') hx a4 a2 a5 a6
    rw [sbd_r]
    cases q2 : rMust n b 44 e with
    | inl g =>
      rw [q2] at h2
      exact a1.tr h2
    | inr p =>
      obtain ⟨u, e2⟩ := p
      rw [q2] at h2
      have h2 : rch n b q (1, e, ρ ++ x :: σ, C', d + 1) (0, e2, (x + 2) :: σ, C' ++ ρ, d + 1) := h2
      rw [a3] at h2
      have h3 := q_in hsum (x := x + 2) (by rcases hx with rfl | rfl <;> decide) e2 σ (C ++ c)
      rw [sbd_r]
      cases q3 : sum e2 with
      | inl g =>
        rw [q3] at h3
        exact (a1.tr h2).tr h3
      | inr p =>
        obtain ⟨c2, e3⟩ := p
        rw [q3] at h3
        rw [sbd_r] at h3 ⊢
        cases q4 : rMust n b 41 e3 with
        | inl g =>
          rw [q4] at h3
          exact (a1.tr h2).tr h3
        | inr p =>
          obtain ⟨u, e4⟩ := p
          rw [q4] at h3
          have h3 : rch n b q (0, e2, (x + 2) :: σ, C ++ c, d + 1) (qE n b e4 σ (C ++ c ++ (c2 ++ extB (x + 2))) d) := h3
          rw [show C ++ c ++ (c2 ++ extB (x + 2)) = C ++ (c ++ c2 ++ extB (x + 2)) by simp [List.append_assoc]] at h3
          exact (a1.tr h2).tr h3
theorem prtA_w {w : List Nat} {k : Nat} (h : prtA q w = some k) : k < 12 ∧ alOf q k = true ∧ w ≠ wMin ∧ w ≠ wMax ∧ w ≠ wBy := by
  unfold prtA at h
  cases q1 : fndW prtW w 0 with
  | none => rw [q1] at h; cases h
  | some j =>
    rw [q1] at h
    have h : (if alOf q j = true then some j else none) = some k := h
    by_cases c : alOf q j = true
    · rw [if_pos c] at h
      cases h
      refine ⟨?_, c, ?_, ?_, ?_⟩
      · have : ∀ (l : List (List Nat)) (m j : Nat), fndW l w m = some j → j < m + l.length := by
          intro l
          induction l with
          | nil => intro m j hj; cases hj
          | cons x l ih =>
            intro m j hj
            have hj : (if x = w then some m else fndW l w (m + 1)) = some j := hj
            by_cases c : x = w
            · rw [if_pos c] at hj
              cases hj
              show m < m + (l.length + 1)
              omega
            · rw [if_neg c] at hj
              have := ih (m + 1) j hj
              show j < m + (l.length + 1)
              omega
        exact this prtW 0 k q1
      · intro e
        rw [e, show fndW prtW wMin 0 = none from by decide] at q1
        cases q1
      · intro e
        rw [e, show fndW prtW wMax 0 = none from by decide] at q1
        cases q1
      · intro e
        rw [e, show fndW prtW wBy 0 = none from by decide] at q1
        cases q1
    · rw [if_neg c] at h; cases h
/-- one atom -/
theorem q_atomB {dp : Bool} {sum atom : Nat → RS (List Int32)} {d : Nat} (hd : dp = false → d = 6) (hd2 : dp = true → d < 6 ∧ qSu n b q sum (d + 1) ∧ qAt n b q atom (d + 1)) (i : Nat) (σ C : List Int32) :
    match rAtomB n b q dp sum atom (sSk n b i) with
    | .inl g => rch n b q (0, i, σ, C, d) (qF g.1 g.2)
    | .inr (c, e) => rch n b q (0, i, σ, C, d) (qE n b e σ (C ++ c) d) := by
  have st : qSt n b q (0, i, σ, C, d) = qStE n b q (sSk n b i) σ C d := rfl
  generalize sSk n b i = j at st
  unfold rAtomB
  unfold qStE at st
  by_cases c1 : rB n b j = 40
  · rw [if_pos c1] at st ⊢
    unfold rWithin
    rw [if_pos c1]
    cases dp with
    | false =>
      rw [if_pos (hd rfl)] at st
      rw [if_pos rfl]
      exact rch.st st
    | true =>
      obtain ⟨d1, d2, d3⟩ := hd2 rfl
      rw [if_neg (by omega)] at st
      rw [if_neg (by decide)]
      have h1 := q_in d2 (x := 20) (Or.inl rfl) (j + 1) σ C
      have e1 : (sbd (sum (j + 1)) fun c1 e1 => if (0 : Nat) = 0 then sbd (rMust n b 41 e1) fun _ e2 => (.inr (c1, e2) : RS (List Int32)) else sbd (rMust n b 44 e1) fun _ e2 => sbd (sum e2) fun c2 e3 => sbd (rMust n b 41 e3) fun _ e4 => .inr (c1 ++ c2 ++ [if (0 : Nat) = 2 then 6 else 5], e4)) = sbd (sum (j + 1)) fun c1 e1 => sbd (rMust n b 41 e1) fun _ e2 => (.inr (c1 ++ extB 20, e2) : RS (List Int32)) := by
        congr 1
        funext c1 e1
        rw [if_pos rfl, show extB 20 = [] from rfl, List.append_nil]
      rw [e1]
      generalize (sbd (sum (j + 1)) fun c1 e1 => sbd (rMust n b 41 e1) fun _ e2 => (.inr (c1 ++ extB 20, e2) : RS (List Int32))) = R at h1
      cases R with
      | inl g => exact (rch.st st).tr h1
      | inr p => exact (rch.st st).tr h1
  rw [if_neg c1] at st ⊢
  by_cases c2 : isD (rB n b j) = true
  · rw [if_pos c2]
    have hl : isL (rB n b j) = false := by
      have := of_decide_eq_true c2
      exact decide_eq_false (by omega)
    have hw : rWordJ n b j = .inl (1, j) := by
      unfold rWordJ
      rw [if_neg (by rw [hl]; exact fun q => absurd q.1 (by decide))]
    rw [hw] at st
    have st : qSt n b q (0, i, σ, C, d) = match rNumJ n b 0 9999 j with
      | .inl g => qF g.1 g.2
      | .inr (v, e) => qE n b e σ (C ++ [nI (1000 + v)]) d := st
    cases qn : rNumJ n b 0 9999 j with
    | inl g => rw [qn] at st; exact rch.st st
    | inr p =>
      obtain ⟨v, e⟩ := p
      rw [qn] at st
      exact rch.st st
  rw [if_neg c2]
  cases qw : rWordJ n b j with
  | inl g =>
    rw [qw] at st
    have hn : rNumJ n b 0 9999 j = .inl (1, j) := by
      unfold rNumJ
      rw [if_neg (fun q => c2 q.1)]
    have st : qSt n b q (0, i, σ, C, d) = match rNumJ n b 0 9999 j with
      | .inl g => qF g.1 g.2
      | .inr (v, e) => qE n b e σ (C ++ [nI (1000 + v)]) d := st
    rw [hn] at st
    have s2 := rch.st st
    rw [(rWordJ_l qw).1]
    exact s2
  | inr p =>
    obtain ⟨w, e⟩ := p
    rw [qw] at st
    obtain ⟨-, -, -, w1, w2, -, -⟩ := rWordJ_r qw
    have w3 : w.2 = j := by rw [w1]
    have st : qSt n b q (0, i, σ, C, d) = (if w.1 = wMin ∨ w.1 = wMax then
        (if rB n b (sSk n b e) = 40 then (if d = 6 then qF 4 (sSk n b e) else (0, sSk n b e + 1, (if w.1 = wMin then 21 else 22) :: σ, C, d + 1)) else qF 1 (sSk n b e))
      else if w.1 = wBy ∧ q = 2 then (if d = 6 then qF 4 j else (0, e, 60 :: σ, C, d + 1))
      else match prtA q w.1 with
        | some k => qE n b e σ (C ++ [nI (40 + k)]) d
        | none => qF 1 j) := st
    rw [sbd_r]
    cases qp : prtA q w.1 with
    | some k =>
      obtain ⟨-, -, p1, p2, p3⟩ := prtA_w qp
      rw [if_neg (fun h => h.elim p1 p2), if_neg (fun h => p3 h.1), qp] at st
      exact rch.st st
    | none =>
      rw [qp] at st
      show match rAtomW n b q dp sum atom w.1 w.2 e with
        | .inl g => rch n b q (0, i, σ, C, d) (qF g.1 g.2)
        | .inr (c, e) => rch n b q (0, i, σ, C, d) (qE n b e σ (C ++ c) d)
      unfold rAtomW
      by_cases d1 : w.1 = wBy ∧ q = 2
      · rw [if_pos d1]
        rw [if_neg (by rw [d1.1]; decide), if_pos d1] at st
        cases dp with
        | false =>
          rw [if_pos (hd rfl)] at st
          rw [if_pos rfl, w3]
          exact rch.st st
        | true =>
          obtain ⟨k1, k2, k3⟩ := hd2 rfl
          rw [if_neg (by omega)] at st
          rw [if_neg (by decide)]
          have h1 := k3 e (60 :: σ) C
          cases qa : atom e with
          | inl g => rw [qa] at h1; exact (rch.st st).tr h1
          | inr p =>
            obtain ⟨c, e2⟩ := p
            rw [qa] at h1
            have h1 : rch n b q (0, e, 60 :: σ, C, d + 1) (qE n b e2 (60 :: σ) (C ++ c) (d + 1)) := h1
            have e3 : qE n b e2 (60 :: σ) (C ++ c) (d + 1) = qE n b e2 σ (C ++ (c ++ [60])) d := by
              unfold qE
              rw [show endp (60 :: σ) (C ++ c) (d + 1) = endp σ (C ++ c ++ [60]) d from by
                show (if (60 : Int32) < 60 then _ else endp σ (C ++ c ++ [60]) (d + 1 - 1)) = _
                rw [if_neg (by decide)]
                rfl, List.append_assoc]
            rw [e3] at h1
            exact (rch.st st).tr h1
      · rw [if_neg d1]
        have two : ∀ (x : Nat) (v : Int32), (x = 1 ∧ v = 21 ∨ x = 2 ∧ v = 22) → qSt n b q (0, i, σ, C, d) = (if rB n b (sSk n b e) = 40 then (if d = 6 then qF 4 (sSk n b e) else (0, sSk n b e + 1, v :: σ, C, d + 1)) else qF 1 (sSk n b e)) →
            match rWithin n b dp sum x (sSk n b e) with
            | .inl g => rch n b q (0, i, σ, C, d) (qF g.1 g.2)
            | .inr (c, e) => rch n b q (0, i, σ, C, d) (qE n b e σ (C ++ c) d) := by
          intro x v hxv st
          generalize sSk n b e = j2 at st
          unfold rWithin
          by_cases k1 : rB n b j2 = 40
          · rw [if_pos k1] at st ⊢
            cases dp with
            | false =>
              rw [if_pos (hd rfl)] at st
              rw [if_pos rfl]
              exact rch.st st
            | true =>
              obtain ⟨d1, d2, d3⟩ := hd2 rfl
              rw [if_neg (by omega)] at st
              rw [if_neg (by decide)]
              have h1 := q_in2 d2 (x := v) (by rcases hxv with ⟨-, rfl⟩ | ⟨-, rfl⟩ <;> decide) (j2 + 1) σ C
              have e1 : (sbd (sum (j2 + 1)) fun c1 e1 => if x = 0 then sbd (rMust n b 41 e1) fun _ e2 => (.inr (c1, e2) : RS (List Int32)) else sbd (rMust n b 44 e1) fun _ e2 => sbd (sum e2) fun c2 e3 => sbd (rMust n b 41 e3) fun _ e4 => .inr (c1 ++ c2 ++ [if x = 2 then 6 else 5], e4)) = sbd (sum (j2 + 1)) (fun c1 e1 => sbd (rMust n b 44 e1) fun _ e2 => sbd (sum e2) fun c2 e3 => sbd (rMust n b 41 e3) fun _ e4 => (.inr (c1 ++ c2 ++ extB (v + 2), e4) : RS (List Int32))) := by
                congr 1
                funext c1 e1
                rcases hxv with ⟨rfl, rfl⟩ | ⟨rfl, rfl⟩
                · rw [if_neg (by decide), show extB (21 + 2) = [5] from by decide, if_neg (by decide)]
                · rw [if_neg (by decide), show extB (22 + 2) = [6] from by decide, if_pos rfl]
              rw [e1]
              generalize (sbd (sum (j2 + 1)) (fun c1 e1 => sbd (rMust n b 44 e1) fun _ e2 => sbd (sum e2) fun c2 e3 => sbd (rMust n b 41 e3) fun _ e4 => (.inr (c1 ++ c2 ++ extB (v + 2), e4) : RS (List Int32)))) = R at h1
              cases R with
              | inl g => exact (rch.st st).tr h1
              | inr p => exact (rch.st st).tr h1
          · rw [if_neg k1] at st ⊢
            exact rch.st st
        by_cases d2 : w.1 = wMin
        · rw [if_pos d2]
          rw [if_pos (Or.inl d2), if_pos d2] at st
          exact two 1 21 (Or.inl ⟨rfl, rfl⟩) st
        · rw [if_neg d2]
          by_cases d3 : w.1 = wMax
          · rw [if_pos d3]
            rw [if_pos (Or.inr d3), if_neg d2] at st
            exact two 2 22 (Or.inr ⟨rfl, rfl⟩) st
          · rw [if_neg d3]
            rw [if_neg (fun h => h.elim d2 d3), if_neg d1] at st
            rw [w3]
            exact rch.st st
theorem q_atom : ∀ (r d : Nat), r + d = 6 → qAt n b q (rAtom n b q r) d
  | 0, d, h => fun i σ C => q_atomB (fun _ => by omega) (fun h => by cases h) i σ C
  | r + 1, d, h => fun i σ C => q_atomB (fun h => by cases h) (fun _ => ⟨by omega, qSu_of (q_atom r (d + 1) (by omega)) (rAtom_pg n b q r), q_atom r (d + 1) (by omega)⟩) i σ C
/-- a sum as a whole -/
theorem q_sum {r d : Nat} (h : r + d = 6) (i : Nat) (C : List Int32) :
    match rSum n b q r i with
    | .inl g => rch n b q (0, i, [], C, d) (qF g.1 g.2)
    | .inr (c, e) => rch n b q (0, i, [], C, d) (2, e, [], C ++ c, d) ∧ sSk n b e = e := by
  have h1 := qSu_of (q_atom (n := n) (b := b) (q := q) r d h) (rAtom_pg n b q r) i [] C (fun x τ e => by cases e)
  have e : rSumO n b (rAtom n b q r) i = rSum n b q r i := rfl
  rw [e] at h1
  cases qs : rSum n b q r i with
  | inl g => rw [qs] at h1; exact h1
  | inr p =>
    obtain ⟨c, e⟩ := p
    rw [qs] at h1
    obtain ⟨ρ, C', a1, a2, a3, a4, a5, a6⟩ := h1
    refine ⟨a1.tr (rch.st ?_), a4⟩
    show qStG n b (sSk n b e) (ρ ++ []) C' d = _
    rw [a4, List.append_nil]
    have sp := spl_nil ρ (ops_br a2)
    unfold qStG
    rw [sp]
    show qStG2 (rB n b e) e ρ C' d = _
    unfold qStG2
    rw [if_neg (opM_none a5), if_neg (opA_none a6), sp]
    show (2, e, [], C' ++ ρ, d) = _
    rw [a3]
end RCH2
