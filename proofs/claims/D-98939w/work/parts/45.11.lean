/-! PART 11: plain: the sums as a machine with a stack (what the Model does), against the descent -/
set_option maxRecDepth 100000
/-- mode (0 a part is expected, 1 goes on, 2 done, 3 fault), place, stack (top first), codes, depth; a fault: (3, place, [], [], kind) -/
abbrev QM : Type := Nat × Nat × List Int32 × List Int32 × Nat
def qF (k p : Nat) : QM := (3, p, [], [], k)
def endp : List Int32 → List Int32 → Nat → List Int32 × List Int32 × Nat
  | [], C, d => ([], C, d)
  | x :: σ, C, d => if x < 60 then (x :: σ, C, d) else endp σ (C ++ [x]) (d - 1)
def qE (n : Nat) (b : Nat → Nat) (i : Nat) (σ C : List Int32) (d : Nat) : QM := (1, sSk n b i, endp σ C d)
def isBr (x : Int32) : Bool := decide (¬ x < 20 ∧ ¬ 24 < x)
/-- above the nearest bracket, and from it on -/
def spl : List Int32 → List Int32 × List Int32
  | [] => ([], [])
  | x :: σ => if isBr x = true then ([], x :: σ) else (x :: (spl σ).1, (spl σ).2)
def popW (P : Int32 → Bool) : List Int32 → List Int32 → List Int32 × List Int32
  | [], C => ([], C)
  | x :: σ, C => if P x = true then popW P σ (C ++ [x]) else (x :: σ, C)
def isMu (x : Int32) : Bool := decide (x = 3 ∨ x = 4)
def isOp (x : Int32) : Bool := decide (x = 3 ∨ x = 4 ∨ x = 1 ∨ x = 2)
def qStE (n : Nat) (b : Nat → Nat) (q j : Nat) (σ C : List Int32) (d : Nat) : QM :=
  if rB n b j = 40 then (if d = 6 then qF 4 j else (0, j + 1, 20 :: σ, C, d + 1))
  else match rWordJ n b j with
    | .inr (w, e) =>
      if w.1 = wMin ∨ w.1 = wMax then
        (if rB n b (sSk n b e) = 40 then (if d = 6 then qF 4 (sSk n b e) else (0, sSk n b e + 1, (if w.1 = wMin then 21 else 22) :: σ, C, d + 1)) else qF 1 (sSk n b e))
      else if w.1 = wBy ∧ q = 2 then (if d = 6 then qF 4 j else (0, e, 60 :: σ, C, d + 1))
      else match prtA q w.1 with
        | some k => qE n b e σ (C ++ [nI (40 + k)]) d
        | none => qF 1 j
    | .inl _ => match rNumJ n b 0 9999 j with
      | .inl g => qF g.1 g.2
      | .inr (v, e) => qE n b e σ (C ++ [nI (1000 + v)]) d
def qStG2 (s j : Nat) (σ C : List Int32) (d : Nat) : QM :=
  if s = 42 ∨ s = 47 then (0, j + 1, (if s = 42 then 3 else 4) :: (popW isMu σ C).1, (popW isMu σ C).2, d)
  else if s = 43 ∨ s = 45 then (0, j + 1, (if s = 43 then 1 else 2) :: (popW isOp σ C).1, (popW isOp σ C).2, d)
  else match (spl σ).2 with
    | [] => (2, j, [], C ++ σ, d)
    | x :: τ => if x = 21 ∨ x = 22 then (if s = 44 then (0, j + 1, (x + 2) :: τ, C ++ (spl σ).1, d) else qF 1 j) else qF 1 j
def qStG (n : Nat) (b : Nat → Nat) (j : Nat) (σ C : List Int32) (d : Nat) : QM :=
  match (spl σ).2 with
    | [] => qStG2 (rB n b j) j σ C d
    | x :: τ => if rB n b j = 41 ∧ (x = 20 ∨ x = 23 ∨ x = 24) then qE n b (j + 1) τ (C ++ (spl σ).1 ++ (if x = 20 then [] else if x = 23 then [5] else [6])) (d - 1) else qStG2 (rB n b j) j σ C d
def qSt (n : Nat) (b : Nat → Nat) (q : Nat) : QM → QM
  | (0, i, σ, C, d) => qStE n b q (sSk n b i) σ C d
  | (1, i, σ, C, d) => qStG n b (sSk n b i) σ C d
  | (m + 2, s) => (m + 2, s)
def qN (n : Nat) (b : Nat → Nat) (q : Nat) : Nat → QM → QM
  | 0, s => s
  | k + 1, s => qN n b q k (qSt n b q s)
def rch (n : Nat) (b : Nat → Nat) (q : Nat) (s s' : QM) : Prop := ∃ k, qN n b q k s = s'
section RCH
variable {n : Nat} {b : Nat → Nat} {q : Nat}
theorem qN_add : ∀ (k m : Nat) (s : QM), qN n b q (k + m) s = qN n b q m (qN n b q k s)
  | 0, m, s => by rw [Nat.zero_add]; rfl
  | k + 1, m, s => by
    rw [show k + 1 + m = (k + m) + 1 by omega]
    exact qN_add k m _
theorem rch.rf (s : QM) : rch n b q s s := ⟨0, rfl⟩
theorem rch.tr {s1 s2 s3 : QM} (h : rch n b q s1 s2) (g : rch n b q s2 s3) : rch n b q s1 s3 := by
  obtain ⟨k, rfl⟩ := h
  obtain ⟨m, rfl⟩ := g
  exact ⟨k + m, qN_add k m s1⟩
theorem rch.st {s s' : QM} (h : qSt n b q s = s') : rch n b q s s' := ⟨1, h⟩
/-- done stays done -/
theorem qN_end : ∀ (k m : Nat) (s : Nat × List Int32 × List Int32 × Nat), qN n b q k (m + 2, s) = (m + 2, s)
  | 0, m, s => rfl
  | k + 1, m, s => qN_end k m s
theorem rch.eq {s : QM} {m m' : Nat} {t t' : Nat × List Int32 × List Int32 × Nat} (h : rch n b q s (m + 2, t)) (g : rch n b q s (m' + 2, t')) : ((m + 2, t) : QM) = (m' + 2, t') := by
  obtain ⟨k, h⟩ := h
  obtain ⟨k', g⟩ := g
  rcases Nat.le_total k k' with c | c
  · have e : k' = k + (k' - k) := by omega
    rw [e, qN_add, h, qN_end] at g
    exact g
  · have e : k = k' + (k - k') := by omega
    rw [e, qN_add, g, qN_end] at h
    exact h.symm
/-- what is reached from s is reached from s', if s comes to s' and is not done before -/
theorem spl_app : ∀ (ρ : List Int32) (x : Int32) (τ : List Int32), (∀ y, y ∈ ρ → isBr y = false) → isBr x = true → spl (ρ ++ x :: τ) = (ρ, x :: τ)
  | [], x, τ, _, hx => by
    show (if isBr x = true then ([], x :: τ) else _) = _
    rw [if_pos hx]
  | y :: ρ, x, τ, h, hx => by
    show (if isBr y = true then ([], y :: (ρ ++ x :: τ)) else (y :: (spl (ρ ++ x :: τ)).1, (spl (ρ ++ x :: τ)).2)) = _
    rw [if_neg (by rw [h y List.mem_cons_self]; decide), spl_app ρ x τ (fun y hy => h y (List.mem_cons_of_mem _ hy)) hx]
theorem spl_nil : ∀ (ρ : List Int32), (∀ y, y ∈ ρ → isBr y = false) → spl ρ = (ρ, [])
  | [], _ => rfl
  | y :: ρ, h => by
    show (if isBr y = true then ([], y :: ρ) else (y :: (spl ρ).1, (spl ρ).2)) = _
    rw [if_neg (by rw [h y List.mem_cons_self]; decide), spl_nil ρ (fun y hy => h y (List.mem_cons_of_mem _ hy))]
theorem popW_app (P : Int32 → Bool) : ∀ (ρ : List Int32) (σ C : List Int32), (∀ y, y ∈ ρ → P y = true) → (∀ x τ, σ = x :: τ → P x = false) → popW P (ρ ++ σ) C = (σ, C ++ ρ)
  | [], σ, C, _, h => by
    rw [List.append_nil]
    cases σ with
    | nil => rfl
    | cons x τ =>
      show (if P x = true then _ else (x :: τ, C)) = _
      rw [if_neg (by rw [h x τ rfl]; decide)]
  | y :: ρ, σ, C, hy, h => by
    show (if P y = true then popW P (ρ ++ σ) (C ++ [y]) else _) = _
    rw [if_pos (hy y List.mem_cons_self), popW_app P ρ σ (C ++ [y]) (fun z hz => hy z (List.mem_cons_of_mem _ hz)) h, List.append_assoc]
    rfl
/-- on top lies no multiplication and no 'by' -/
def tpM (σ : List Int32) : Prop := ∀ x τ, σ = x :: τ → x < 60 ∧ isMu x = false
/-- the top is a bracket, or there is none -/
def tpB (σ : List Int32) : Prop := ∀ x τ, σ = x :: τ → isBr x = true ∧ x < 60 ∧ isOp x = false
theorem endp_tp {σ C : List Int32} {d : Nat} (h : ∀ x τ, σ = x :: τ → x < 60) : endp σ C d = (σ, C, d) := by
  cases σ with
  | nil => rfl
  | cons x τ =>
    show (if x < 60 then (x :: τ, C, d) else _) = _
    rw [if_pos (h x τ rfl)]
theorem isMu_op {x : Int32} (h : isOp x = false) : isMu x = false := by
  unfold isMu isOp at *
  have := of_decide_eq_false h
  exact decide_eq_false (fun q => this (q.elim Or.inl (fun q => Or.inr (Or.inl q))))
theorem tpB.m {σ : List Int32} (h : tpB σ) : tpM σ := fun x τ e => ⟨(h x τ e).2.1, isMu_op (h x τ e).2.2⟩
theorem op_br : ∀ x : Int32, isOp x = true → isBr x = false := by
  intro x h
  rcases of_decide_eq_true h with rfl | rfl | rfl | rfl <;> decide
/-- what an atom does -/
def qAt (n : Nat) (b : Nat → Nat) (q : Nat) (atom : Nat → RS (List Int32)) (d : Nat) : Prop := ∀ i σ C, match atom i with
  | .inl g => rch n b q (0, i, σ, C, d) (qF g.1 g.2)
  | .inr (c, e) => rch n b q (0, i, σ, C, d) (qE n b e σ (C ++ c) d)
def qPr (n : Nat) (b : Nat → Nat) (q : Nat) (prod : Nat → RS (List Int32)) (d : Nat) : Prop := ∀ i σ C, tpM σ → match prod i with
  | .inl g => rch n b q (0, i, σ, C, d) (qF g.1 g.2)
  | .inr (c, e) => ∃ ρ C', rch n b q (0, i, σ, C, d) (1, e, ρ ++ σ, C', d) ∧ (∀ x, x ∈ ρ → isMu x = true) ∧ C' ++ ρ = C ++ c ∧ sSk n b e = e ∧ opM (rB n b e) = none
def qSu (n : Nat) (b : Nat → Nat) (q : Nat) (sum : Nat → RS (List Int32)) (d : Nat) : Prop := ∀ i σ C, tpB σ → match sum i with
  | .inl g => rch n b q (0, i, σ, C, d) (qF g.1 g.2)
  | .inr (c, e) => ∃ ρ C', rch n b q (0, i, σ, C, d) (1, e, ρ ++ σ, C', d) ∧ (∀ x, x ∈ ρ → isOp x = true) ∧ C' ++ ρ = C ++ c ∧ sSk n b e = e ∧ opM (rB n b e) = none ∧ opA (rB n b e) = none
theorem opM_some {s : Nat} {o : Int32} (h : opM s = some o) : (s = 42 ∨ s = 47) ∧ o = (if s = 42 then 3 else 4) ∧ isMu o = true ∧ o < 60 := by
  unfold opM at h
  by_cases c1 : s = 42
  · rw [if_pos c1] at h ⊢
    cases h
    exact ⟨Or.inl c1, rfl, by decide, by decide⟩
  · rw [if_neg c1] at h ⊢
    by_cases c2 : s = 47
    · rw [if_pos c2] at h
      cases h
      exact ⟨Or.inr c2, rfl, by decide, by decide⟩
    · rw [if_neg c2] at h; cases h
theorem opM_none {s : Nat} (h : opM s = none) : ¬ (s = 42 ∨ s = 47) := by
  unfold opM at h
  rintro (c | c) <;> subst c <;> exact absurd h (by decide)
theorem opA_some {s : Nat} {o : Int32} (h : opA s = some o) : (s = 43 ∨ s = 45) ∧ o = (if s = 43 then 1 else 2) ∧ isOp o = true ∧ o < 60 ∧ isMu o = false ∧ ¬ (s = 42 ∨ s = 47) := by
  unfold opA at h
  by_cases c1 : s = 43
  · rw [if_pos c1] at h ⊢
    cases h
    exact ⟨Or.inl c1, rfl, by decide, by decide, by decide, by omega⟩
  · rw [if_neg c1] at h ⊢
    by_cases c2 : s = 45
    · rw [if_pos c2] at h
      cases h
      exact ⟨Or.inr c2, rfl, by decide, by decide, by decide, by omega⟩
    · rw [if_neg c2] at h; cases h
theorem opA_none {s : Nat} (h : opA s = none) : ¬ (s = 43 ∨ s = 45) := by
  unfold opA at h
  rintro (c | c) <;> subst c <;> exact absurd h (by decide)
/-- a step of going on that is no bracket's end -/
theorem qStG_2 {j : Nat} {σ C : List Int32} {d : Nat} (h : rB n b j ≠ 41) : qStG n b j σ C d = qStG2 (rB n b j) j σ C d := by
  unfold qStG
  cases (spl σ).2 with
  | nil => rfl
  | cons x τ =>
    show (if rB n b j = 41 ∧ _ then _ else _) = _
    rw [if_neg (fun q => h q.1)]
theorem qCh_M {atom : Nat → RS (List Int32)} {d : Nat} (ha : qAt n b q atom d) (hp : rPg n b atom) {σ : List Int32} (hσ : tpM σ) (C : List Int32) : ∀ (f : Nat) (c : List Int32) (e : Nat) (ρ C' : List Int32), sSk n b e = e → e ≤ n → n < f + e → (∀ x, x ∈ ρ → isMu x = true) → C' ++ ρ = C ++ c →
    match rChain n b atom opM f c e with
    | .inl g => rch n b q (1, e, ρ ++ σ, C', d) (qF g.1 g.2)
    | .inr (c2, e2) => ∃ ρ' C2, rch n b q (1, e, ρ ++ σ, C', d) (1, e2, ρ' ++ σ, C2, d) ∧ (∀ x, x ∈ ρ' → isMu x = true) ∧ C2 ++ ρ' = C ++ c2 ∧ sSk n b e2 = e2 ∧ opM (rB n b e2) = none
  | 0, c, e, ρ, C', hs, h1, h2, _, _ => absurd h2 (by omega)
  | f + 1, c, e, ρ, C', hs, h1, h2, hρ, hC => by
    show match (match opM (rB n b (sSk n b e)) with
      | none => (Sum.inr (c, sSk n b e) : RS (List Int32))
      | some o => sbd (atom (sSk n b e + 1)) fun c2 e => rChain n b atom opM f (c ++ c2 ++ [o]) e) with
      | .inl g => rch n b q (1, e, ρ ++ σ, C', d) (qF g.1 g.2)
      | .inr (c2, e2) => ∃ ρ' C2, rch n b q (1, e, ρ ++ σ, C', d) (1, e2, ρ' ++ σ, C2, d) ∧ (∀ x, x ∈ ρ' → isMu x = true) ∧ C2 ++ ρ' = C ++ c2 ∧ sSk n b e2 = e2 ∧ opM (rB n b e2) = none
    rw [hs]
    cases qo : opM (rB n b e) with
    | none => exact ⟨ρ, C', rch.rf _, hρ, hC, hs, qo⟩
    | some o =>
      obtain ⟨o1, o2, o3, o4⟩ := opM_some qo
      have s1 : rch n b q (1, e, ρ ++ σ, C', d) (0, e + 1, o :: σ, C ++ c, d) := by
        refine rch.st ?_
        show qStG n b (sSk n b e) (ρ ++ σ) C' d = _
        rw [hs, qStG_2 (by omega)]
        unfold qStG2
        rw [if_pos o1, popW_app isMu ρ σ C' hρ (fun x τ e => (hσ x τ e).2), hC, ← o2]
      have ha1 := ha (e + 1) (o :: σ) (C ++ c)
      cases qa : atom (e + 1) with
      | inl g =>
        rw [qa] at ha1
        exact s1.tr ha1
      | inr p =>
        obtain ⟨c2, e2⟩ := p
        rw [qa] at ha1
        have ha1 : rch n b q (0, e + 1, o :: σ, C ++ c, d) (qE n b e2 (o :: σ) (C ++ c ++ c2) d) := ha1
        rw [show qE n b e2 (o :: σ) (C ++ c ++ c2) d = (1, sSk n b e2, [o] ++ σ, C ++ c ++ c2, d) by
          unfold qE
          rw [endp_tp (fun x τ e => by cases e; exact o4)]
          rfl] at ha1
        obtain ⟨g1, g2⟩ := hp _ _ _ qa
        have g3 := sSk_ge n b (e + 1)
        have g4 := sSk_ge n b e2
        have ih := qCh_M ha hp hσ C f (c ++ c2 ++ [o]) (sSk n b e2) [o] (C ++ c ++ c2) (sSk_id n b e2) (sSk_le b g2) (by omega) (fun x hx => by rw [List.mem_singleton.mp hx]; exact o3) (by simp [List.append_assoc])
        have ec : rChain n b atom opM f (c ++ c2 ++ [o]) (sSk n b e2) = rChain n b atom opM f (c ++ c2 ++ [o]) e2 := by
          cases f with
          | zero => exfalso; omega
          | succ f =>
            show (match opM (rB n b (sSk n b (sSk n b e2))) with
              | none => (Sum.inr (c ++ c2 ++ [o], sSk n b (sSk n b e2)) : RS (List Int32))
              | some o' => sbd (atom (sSk n b (sSk n b e2) + 1)) fun c3 e => rChain n b atom opM f (c ++ c2 ++ [o] ++ c3 ++ [o']) e) = _
            rw [sSk_id]
            rfl
        rw [ec] at ih
        show match rChain n b atom opM f (c ++ c2 ++ [o]) e2 with
          | .inl g => rch n b q (1, e, ρ ++ σ, C', d) (qF g.1 g.2)
          | .inr (c2, e2) => ∃ ρ' C2, rch n b q (1, e, ρ ++ σ, C', d) (1, e2, ρ' ++ σ, C2, d) ∧ (∀ x, x ∈ ρ' → isMu x = true) ∧ C2 ++ ρ' = C ++ c2 ∧ sSk n b e2 = e2 ∧ opM (rB n b e2) = none
        cases qr : rChain n b atom opM f (c ++ c2 ++ [o]) e2 with
        | inl g =>
          rw [qr] at ih
          exact (s1.tr ha1).tr ih
        | inr p =>
          obtain ⟨c4, e4⟩ := p
          rw [qr] at ih
          obtain ⟨ρ', C2, i1, i2⟩ := ih
          exact ⟨ρ', C2, (s1.tr ha1).tr i1, i2⟩
theorem qPr_of {atom : Nat → RS (List Int32)} {d : Nat} (ha : qAt n b q atom d) (hp : rPg n b atom) : qPr n b q (rProd n b atom) d := by
  intro i σ C hσ
  have ha1 := ha i σ C
  show match sbd (atom i) (fun c e => rChain n b atom opM (n + 1) c e) with
    | .inl g => rch n b q (0, i, σ, C, d) (qF g.1 g.2)
    | .inr (c, e) => ∃ ρ C', rch n b q (0, i, σ, C, d) (1, e, ρ ++ σ, C', d) ∧ (∀ x, x ∈ ρ → isMu x = true) ∧ C' ++ ρ = C ++ c ∧ sSk n b e = e ∧ opM (rB n b e) = none
  cases qa : atom i with
  | inl g =>
    rw [qa] at ha1
    exact ha1
  | inr p =>
    obtain ⟨c, e⟩ := p
    rw [qa] at ha1
    have ha1 : rch n b q (0, i, σ, C, d) (qE n b e σ (C ++ c) d) := ha1
    rw [show qE n b e σ (C ++ c) d = (1, sSk n b e, [] ++ σ, C ++ c, d) by
      unfold qE
      rw [endp_tp (fun x τ e => (hσ x τ e).1)]
      rfl] at ha1
    obtain ⟨g1, g2⟩ := hp _ _ _ qa
    have ih := qCh_M ha hp hσ C (n + 1) c (sSk n b e) [] (C ++ c) (sSk_id n b e) (sSk_le b g2) (by omega) (fun x hx => absurd hx (by simp)) (by simp)
    have ec : rChain n b atom opM (n + 1) c (sSk n b e) = rChain n b atom opM (n + 1) c e := by
      show (match opM (rB n b (sSk n b (sSk n b e))) with
        | none => (Sum.inr (c, sSk n b (sSk n b e)) : RS (List Int32))
        | some o' => sbd (atom (sSk n b (sSk n b e) + 1)) fun c3 e => rChain n b atom opM n (c ++ c3 ++ [o']) e) = _
      rw [sSk_id]
      rfl
    rw [ec] at ih
    show match rChain n b atom opM (n + 1) c e with
      | .inl g => rch n b q (0, i, σ, C, d) (qF g.1 g.2)
      | .inr (c, e) => ∃ ρ C', rch n b q (0, i, σ, C, d) (1, e, ρ ++ σ, C', d) ∧ (∀ x, x ∈ ρ → isMu x = true) ∧ C' ++ ρ = C ++ c ∧ sSk n b e = e ∧ opM (rB n b e) = none
    cases qr : rChain n b atom opM (n + 1) c e with
    | inl g =>
      rw [qr] at ih
      exact ha1.tr ih
    | inr p =>
      obtain ⟨c4, e4⟩ := p
      rw [qr] at ih
      obtain ⟨ρ', C2, i1, i2⟩ := ih
      exact ⟨ρ', C2, ha1.tr i1, i2⟩
theorem isOp_mu {x : Int32} (h : isMu x = true) : isOp x = true := by
  rcases of_decide_eq_true h with rfl | rfl <;> decide
theorem qCh_A {prod : Nat → RS (List Int32)} {d : Nat} (ha : qPr n b q prod d) (hp : rPg n b prod) {σ : List Int32} (hσ : tpB σ) (C : List Int32) : ∀ (f : Nat) (c : List Int32) (e : Nat) (ρ C' : List Int32), sSk n b e = e → e ≤ n → n < f + e → (∀ x, x ∈ ρ → isOp x = true) → C' ++ ρ = C ++ c → opM (rB n b e) = none →
    match rChain n b prod opA f c e with
    | .inl g => rch n b q (1, e, ρ ++ σ, C', d) (qF g.1 g.2)
    | .inr (c2, e2) => ∃ ρ' C2, rch n b q (1, e, ρ ++ σ, C', d) (1, e2, ρ' ++ σ, C2, d) ∧ (∀ x, x ∈ ρ' → isOp x = true) ∧ C2 ++ ρ' = C ++ c2 ∧ sSk n b e2 = e2 ∧ opM (rB n b e2) = none ∧ opA (rB n b e2) = none
  | 0, c, e, ρ, C', hs, h1, h2, _, _, _ => absurd h2 (by omega)
  | f + 1, c, e, ρ, C', hs, h1, h2, hρ, hC, hm => by
    show match (match opA (rB n b (sSk n b e)) with
      | none => (Sum.inr (c, sSk n b e) : RS (List Int32))
      | some o => sbd (prod (sSk n b e + 1)) fun c2 e => rChain n b prod opA f (c ++ c2 ++ [o]) e) with
      | .inl g => rch n b q (1, e, ρ ++ σ, C', d) (qF g.1 g.2)
      | .inr (c2, e2) => ∃ ρ' C2, rch n b q (1, e, ρ ++ σ, C', d) (1, e2, ρ' ++ σ, C2, d) ∧ (∀ x, x ∈ ρ' → isOp x = true) ∧ C2 ++ ρ' = C ++ c2 ∧ sSk n b e2 = e2 ∧ opM (rB n b e2) = none ∧ opA (rB n b e2) = none
    rw [hs]
    cases qo : opA (rB n b e) with
    | none => exact ⟨ρ, C', rch.rf _, hρ, hC, hs, hm, qo⟩
    | some o =>
      obtain ⟨o1, o2, o3, o4, o5, o6⟩ := opA_some qo
      have s1 : rch n b q (1, e, ρ ++ σ, C', d) (0, e + 1, o :: σ, C ++ c, d) := by
        refine rch.st ?_
        show qStG n b (sSk n b e) (ρ ++ σ) C' d = _
        rw [hs, qStG_2 (by omega)]
        unfold qStG2
        rw [if_neg o6, if_pos o1, popW_app isOp ρ σ C' hρ (fun x τ e => (hσ x τ e).2.2), hC, ← o2]
      have ha1 := ha (e + 1) (o :: σ) (C ++ c) (fun x τ e => by cases e; exact ⟨o4, o5⟩)
      cases qa : prod (e + 1) with
      | inl g =>
        rw [qa] at ha1
        exact s1.tr ha1
      | inr p =>
        obtain ⟨c2, e2⟩ := p
        rw [qa] at ha1
        obtain ⟨ρ2, C2, a1, a2, a3, a4, a5⟩ := ha1
        obtain ⟨g1, g2⟩ := hp _ _ _ qa
        have g3 := sSk_ge n b (e + 1)
        have ih := qCh_A ha hp hσ C f (c ++ c2 ++ [o]) e2 (ρ2 ++ [o]) C2 a4 g2 (by omega) (fun x hx => by
          rcases List.mem_append.mp hx with hx | hx
          · exact isOp_mu (a2 x hx)
          · rw [List.mem_singleton.mp hx]; exact o3) (by rw [← List.append_assoc, a3]; simp [List.append_assoc]) a5
        rw [show ρ2 ++ [o] ++ σ = ρ2 ++ o :: σ by simp] at ih
        show match rChain n b prod opA f (c ++ c2 ++ [o]) e2 with
          | .inl g => rch n b q (1, e, ρ ++ σ, C', d) (qF g.1 g.2)
          | .inr (c2, e2) => ∃ ρ' C2, rch n b q (1, e, ρ ++ σ, C', d) (1, e2, ρ' ++ σ, C2, d) ∧ (∀ x, x ∈ ρ' → isOp x = true) ∧ C2 ++ ρ' = C ++ c2 ∧ sSk n b e2 = e2 ∧ opM (rB n b e2) = none ∧ opA (rB n b e2) = none
        cases qr : rChain n b prod opA f (c ++ c2 ++ [o]) e2 with
        | inl g =>
          rw [qr] at ih
          exact (s1.tr a1).tr ih
        | inr p =>
          obtain ⟨c4, e4⟩ := p
          rw [qr] at ih
          obtain ⟨ρ', C2, i1, i2⟩ := ih
          exact ⟨ρ', C2, (s1.tr a1).tr i1, i2⟩
theorem qSu_of {atom : Nat → RS (List Int32)} {d : Nat} (ha : qAt n b q atom d) (hp : rPg n b atom) : qSu n b q (rSumO n b atom) d := by
  intro i σ C hσ
  have ha1 := qPr_of ha hp i σ C hσ.m
  show match sbd (rProd n b atom i) (fun c e => rChain n b (rProd n b atom) opA (n + 1) c e) with
    | .inl g => rch n b q (0, i, σ, C, d) (qF g.1 g.2)
    | .inr (c, e) => ∃ ρ C', rch n b q (0, i, σ, C, d) (1, e, ρ ++ σ, C', d) ∧ (∀ x, x ∈ ρ → isOp x = true) ∧ C' ++ ρ = C ++ c ∧ sSk n b e = e ∧ opM (rB n b e) = none ∧ opA (rB n b e) = none
  cases qa : rProd n b atom i with
  | inl g =>
    rw [qa] at ha1
    exact ha1
  | inr p =>
    obtain ⟨c, e⟩ := p
    rw [qa] at ha1
    obtain ⟨ρ2, C2, a1, a2, a3, a4, a5⟩ := ha1
    obtain ⟨g1, g2⟩ := rProd_pg hp _ _ _ qa
    have ih := qCh_A (qPr_of ha hp) (rProd_pg hp) hσ C (n + 1) c e ρ2 C2 a4 g2 (by omega) (fun x hx => isOp_mu (a2 x hx)) a3 a5
    show match rChain n b (rProd n b atom) opA (n + 1) c e with
      | .inl g => rch n b q (0, i, σ, C, d) (qF g.1 g.2)
      | .inr (c, e) => ∃ ρ C', rch n b q (0, i, σ, C, d) (1, e, ρ ++ σ, C', d) ∧ (∀ x, x ∈ ρ → isOp x = true) ∧ C' ++ ρ = C ++ c ∧ sSk n b e = e ∧ opM (rB n b e) = none ∧ opA (rB n b e) = none
    cases qr : rChain n b (rProd n b atom) opA (n + 1) c e with
    | inl g =>
      rw [qr] at ih
      exact a1.tr ih
    | inr p =>
      obtain ⟨c4, e4⟩ := p
      rw [qr] at ih
      obtain ⟨ρ', C2, i1, i2⟩ := ih
      exact ⟨ρ', C2, a1.tr i1, i2⟩
end RCH
