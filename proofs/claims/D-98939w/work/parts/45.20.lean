/-! PART 20: plain: tests as a machine with a stack, against the descent -/
set_option maxRecDepth 100000
def dnot : List Int32 → List Int32 → Nat → List Int32 × List Int32 × Nat
  | [], C, d => ([], C, d)
  | x :: σ, C, d => if x = 12 then dnot σ (C ++ [x]) (d - 1) else (x :: σ, C, d)
def tE (n : Nat) (b : Nat → Nat) (i : Nat) (σ C : List Int32) (d : Nat) : QM := (1, sSk n b i, dnot σ C d)
def has25 : List Int32 → Bool
  | [] => false
  | x :: σ => decide (x = 25) || has25 σ
/-- above the nearest square bracket, and below it -/
def spq : List Int32 → List Int32 × List Int32
  | [] => ([], [])
  | x :: σ => if x = 25 then ([], σ) else (x :: (spq σ).1, (spq σ).2)
def is10 (x : Int32) : Bool := decide (x = 10)
def is11 (x : Int32) : Bool := decide (x = 10 ∨ x = 11)
def tStC (n : Nat) (b : Nat → Nat) (q j : Nat) (σ C : List Int32) (d : Nat) : QM := match rCmp n b (rSum n b q (6 - d)) j with
  | .inl g => qF g.1 g.2
  | .inr (c, e) => tE n b e σ (C ++ c) d
def tStE (n : Nat) (b : Nat → Nat) (q j : Nat) (σ C : List Int32) (d : Nat) : QM :=
  if rB n b j = 91 then (if d = 6 then qF 4 j else (0, j + 1, 25 :: σ, C, d + 1))
  else if hB n b j wNot = true then (if d = 6 then qF 4 j else (0, sWe n b j, 12 :: σ, C, d + 1))
  else if hB n b j wAll = true then tE n b (sWe n b j) σ (C ++ [13]) d
  else tStC n b q j σ C d
def tStG (n : Nat) (b : Nat → Nat) (j : Nat) (σ C : List Int32) (d : Nat) : QM :=
  if rB n b j = 93 ∧ has25 σ = true then tE n b (j + 1) (spq σ).2 (C ++ (spq σ).1) (d - 1)
  else if hB n b j wAnd = true then (0, sWe n b j, 10 :: (popW is10 σ C).1, (popW is10 σ C).2, d)
  else if hB n b j wOr = true then (0, sWe n b j, 11 :: (popW is11 σ C).1, (popW is11 σ C).2, d)
  else if has25 σ = true then qF 1 j
  else (2, j, [], C ++ σ, d)
def tSt (n : Nat) (b : Nat → Nat) (q : Nat) : QM → QM
  | (0, i, σ, C, d) => tStE n b q (sSk n b i) σ C d
  | (1, i, σ, C, d) => tStG n b (sSk n b i) σ C d
  | (m + 2, s) => (m + 2, s)
def tN (n : Nat) (b : Nat → Nat) (q : Nat) : Nat → QM → QM
  | 0, s => s
  | k + 1, s => tN n b q k (tSt n b q s)
def tch (n : Nat) (b : Nat → Nat) (q : Nat) (s s' : QM) : Prop := ∃ k, tN n b q k s = s'
section TCH
variable {n : Nat} {b : Nat → Nat} {q : Nat}
theorem tN_add : ∀ (k m : Nat) (s : QM), tN n b q (k + m) s = tN n b q m (tN n b q k s)
  | 0, m, s => by rw [Nat.zero_add]; rfl
  | k + 1, m, s => by
    rw [show k + 1 + m = (k + m) + 1 by omega]
    exact tN_add k m _
theorem tch.rf (s : QM) : tch n b q s s := ⟨0, rfl⟩
theorem tch.tr {s1 s2 s3 : QM} (h : tch n b q s1 s2) (g : tch n b q s2 s3) : tch n b q s1 s3 := by
  obtain ⟨k, rfl⟩ := h
  obtain ⟨m, rfl⟩ := g
  exact ⟨k + m, tN_add k m s1⟩
theorem tch.st {s s' : QM} (h : tSt n b q s = s') : tch n b q s s' := ⟨1, h⟩
theorem tN_end : ∀ (k m : Nat) (s : Nat × List Int32 × List Int32 × Nat), tN n b q k (m + 2, s) = (m + 2, s)
  | 0, m, s => rfl
  | k + 1, m, s => tN_end k m s
theorem tch.eq {s : QM} {m m' : Nat} {t t' : Nat × List Int32 × List Int32 × Nat} (h : tch n b q s (m + 2, t)) (g : tch n b q s (m' + 2, t')) : ((m + 2, t) : QM) = (m' + 2, t') := by
  obtain ⟨k, h⟩ := h
  obtain ⟨k', g⟩ := g
  rcases Nat.le_total k k' with c | c
  · have e : k' = k + (k' - k) := by omega
    rw [e, tN_add, h, tN_end] at g
    exact g
  · have e : k = k' + (k - k') := by omega
    rw [e, tN_add, g, tN_end] at h
    exact h.symm
/-- what a fault of the descent is in the machine: a fault, or (outside of all brackets) it stops at a letter right behind a number -/
def tFl (n : Nat) (b : Nat → Nat) (q d : Nat) (σ : List Int32) (s : QM) (g : Nat × Nat) : Prop := tch n b q s (qF g.1 g.2) ∨ (has25 σ = false ∧ g.1 = 1 ∧ isL (rB n b g.2) = true ∧ pv b g.2 = true ∧ sSk n b g.2 = g.2 ∧ ∃ C', tch n b q s (2, g.2, [], C', d))
theorem tFl.tr {d : Nat} {σ : List Int32} {s s' : QM} {g : Nat × Nat} (h : tch n b q s s') (k : tFl n b q d σ s' g) : tFl n b q d σ s g := by
  rcases k with k | ⟨k1, k2, k3, k4, k5, C', k6⟩
  · exact Or.inl (h.tr k)
  · exact Or.inr ⟨k1, k2, k3, k4, k5, C', h.tr k6⟩
theorem has25_app : ∀ (ρ σ : List Int32), (∀ x, x ∈ ρ → x ≠ 25) → has25 (ρ ++ σ) = has25 σ
  | [], σ, _ => rfl
  | x :: ρ, σ, h => by
    show (decide (x = 25) || has25 (ρ ++ σ)) = has25 σ
    rw [decide_eq_false (h x List.mem_cons_self), has25_app ρ σ (fun y hy => h y (List.mem_cons_of_mem _ hy))]
    rfl
theorem spq_app : ∀ (ρ σ : List Int32), (∀ x, x ∈ ρ → x ≠ 25) → spq (ρ ++ 25 :: σ) = (ρ, σ)
  | [], σ, _ => by
    show (if (25 : Int32) = 25 then ([], σ) else _) = _
    rw [if_pos rfl]
  | x :: ρ, σ, h => by
    show (if x = 25 then _ else (x :: (spq (ρ ++ 25 :: σ)).1, (spq (ρ ++ 25 :: σ)).2)) = _
    rw [if_neg (h x List.mem_cons_self), spq_app ρ σ (fun y hy => h y (List.mem_cons_of_mem _ hy))]
/-- what a fact does; r more may be opened -/
def tFa (n : Nat) (b : Nat → Nat) (q : Nat) (fact : Nat → RS (List Int32)) (d : Nat) : Prop := ∀ i σ C, match fact i with
  | .inl g => tch n b q (0, i, σ, C, d) (qF g.1 g.2)
  | .inr (c, e) => tch n b q (0, i, σ, C, d) (tE n b e σ (C ++ c) d)
def tpN (σ : List Int32) : Prop := ∀ x τ, σ = x :: τ → x ≠ 12 ∧ is10 x = false
def tpQ (σ : List Int32) : Prop := ∀ x τ, σ = x :: τ → x = 25
theorem tpQ.tn {σ : List Int32} (h : tpQ σ) : tpN σ := fun x τ e => by rw [h x τ e]; decide
theorem dnot_tp {σ C : List Int32} {d : Nat} (h : ∀ x τ, σ = x :: τ → x ≠ 12) : dnot σ C d = (σ, C, d) := by
  cases σ with
  | nil => rfl
  | cons x τ =>
    show (if x = 12 then _ else (x :: τ, C, d)) = _
    rw [if_neg (h x τ rfl)]
/-- the descent's word is the machine's -/
theorem chW_s {part : Nat → RS (List Int32)} {w : List Nat} {o : Int32} {f : Nat} {c : List Int32} {e : Nat} (hs : sSk n b e = e) :
    rChainW n b part w o (f + 1) c e = if hB n b e w = true then sbd (part (sWe n b e)) (fun c2 e2 => rChainW n b part w o f (c ++ c2 ++ [o]) e2) else if isL (rB n b e) = true ∧ pv b e = true then .inl (1, e) else .inr (c, e) := by
  show (match rWordJ n b (sSk n b e) with
    | .inr (v, e1) => if v.1 = w then sbd (part e1) fun c2 e2 => rChainW n b part w o f (c ++ c2 ++ [o]) e2 else .inr (c, sSk n b e)
    | .inl g => if isL (rB n b (sSk n b e)) = true then (.inl g : RS (List Int32)) else .inr (c, sSk n b e)) = _
  rw [hs]
  unfold hB
  cases qw : rWordJ n b e with
  | inl g =>
    obtain ⟨g1, g2⟩ := rWordJ_l qw
    show (if isL (rB n b e) = true then (.inl g : RS (List Int32)) else .inr (c, e)) = (if (false = true) then _ else _)
    rw [if_neg (show ¬ (false = true) by decide), g1]
    by_cases k : isL (rB n b e) = true
    · have p : pv b e = true := by
        cases h : pv b e with
        | true => rfl
        | false => exact absurd ⟨k, h⟩ g2
      rw [if_pos k, if_pos ⟨k, p⟩]
    · rw [if_neg k, if_neg (fun h => k h.1)]
  | inr p =>
    obtain ⟨v, e1⟩ := p
    obtain ⟨-, -, q3, -, q5, -⟩ := rWordJ_r qw
    show (if v.1 = w then sbd (part e1) fun c2 e2 => rChainW n b part w o f (c ++ c2 ++ [o]) e2 else (.inr (c, e) : RS (List Int32))) = (if decide (v.1 = w) = true then _ else _)
    by_cases k : v.1 = w
    · rw [if_pos k, decide_eq_true k, if_pos rfl, q5]
    · rw [if_neg k, decide_eq_false k, if_neg (by decide), if_neg (by rw [q3]; exact fun h => absurd h.2 (by decide))]
theorem hB_two {j : Nat} {W W' : List Nat} (h : hB n b j W = true) (hw : W ≠ W') : hB n b j W' = false := by
  obtain ⟨v, q1, q2, -⟩ := hB_t h
  unfold hB
  rw [q1]
  exact decide_eq_false (fun e => hw (by rw [← q2, e]))
theorem hB_at {j : Nat} {W : List Nat} (h : hB n b j W = true) : isL (rB n b j) = true ∧ pv b j = false ∧ rB n b j ≠ 93 := by
  unfold hB at h
  cases qw : rWordJ n b j with
  | inl g => rw [qw] at h; cases h
  | inr p =>
    obtain ⟨v, e⟩ := p
    obtain ⟨q1, q2, q3, -⟩ := rWordJ_r qw
    have e1 : rB n b j = b j := by unfold rB; rw [if_pos q1]
    rw [e1]
    refine ⟨q2, q3, fun g => ?_⟩
    rw [g] at q2
    exact absurd q2 (by decide)
/-- stop at a letter behind a number -/
theorem t_bad {e d : Nat} {ρ σ C' : List Int32} (hs : sSk n b e = e) (hρ : ∀ x, x ∈ ρ → x ≠ 25) (k : isL (rB n b e) = true ∧ pv b e = true) : tFl n b q d σ (1, e, ρ ++ σ, C', d) (1, e) := by
  have nb : ∀ W, hB n b e W = false := fun W => by
    cases h : hB n b e W with
    | false => rfl
    | true => have := (hB_at h).2.1; rw [k.2] at this; cases this
  have n93 : rB n b e ≠ 93 := fun g => by rw [g] at k; exact absurd k.1 (by decide)
  have st : tSt n b q (1, e, ρ ++ σ, C', d) = if has25 σ = true then qF 1 e else (2, e, [], C' ++ (ρ ++ σ), d) := by
    show tStG n b (sSk n b e) (ρ ++ σ) C' d = _
    rw [hs]
    unfold tStG
    rw [if_neg (fun g => n93 g.1), nb, nb, if_neg (by decide), if_neg (by decide), has25_app ρ σ hρ]
  cases h : has25 σ with
  | true =>
    rw [if_pos h] at st
    exact Or.inl (tch.st st)
  | false =>
    rw [if_neg (by rw [h]; decide)] at st
    exact Or.inr ⟨h, rfl, k.1, k.2, hs, _, tch.st st⟩
theorem chW_id {part : Nat → RS (List Int32)} {w : List Nat} {o : Int32} {f : Nat} {c : List Int32} {e : Nat} : rChainW n b part w o (f + 1) c (sSk n b e) = rChainW n b part w o (f + 1) c e := by
  show (match rWordJ n b (sSk n b (sSk n b e)) with
    | .inr (v, e1) => if v.1 = w then sbd (part e1) fun c2 e2 => rChainW n b part w o f (c ++ c2 ++ [o]) e2 else .inr (c, sSk n b (sSk n b e))
    | .inl g => if isL (rB n b (sSk n b (sSk n b e))) = true then (.inl g : RS (List Int32)) else .inr (c, sSk n b (sSk n b e))) = _
  rw [sSk_id]
  rfl
theorem tCh_A {fact : Nat → RS (List Int32)} {d : Nat} (ha : tFa n b q fact d) (hp : rPg n b fact) {σ : List Int32} (hσ : tpN σ) (C : List Int32) : ∀ (f : Nat) (c : List Int32) (e : Nat) (ρ C' : List Int32), sSk n b e = e → e ≤ n → n < f + e → (∀ x, x ∈ ρ → x = 10) → C' ++ ρ = C ++ c →
    match rChainW n b fact wAnd 10 f c e with
    | .inl g => tFl n b q d σ (1, e, ρ ++ σ, C', d) g
    | .inr (c2, e2) => ∃ ρ' C2, tch n b q (1, e, ρ ++ σ, C', d) (1, e2, ρ' ++ σ, C2, d) ∧ (∀ x, x ∈ ρ' → x = 10) ∧ C2 ++ ρ' = C ++ c2 ∧ sSk n b e2 = e2 ∧ hB n b e2 wAnd = false ∧ ¬ (isL (rB n b e2) = true ∧ pv b e2 = true)
  | 0, c, e, ρ, C', hs, h1, h2, _, _ => absurd h2 (by omega)
  | f + 1, c, e, ρ, C', hs, h1, h2, hρ, hC => by
    rw [chW_s hs]
    cases hb : hB n b e wAnd with
    | false =>
      rw [if_neg (by decide)]
      by_cases k : isL (rB n b e) = true ∧ pv b e = true
      · rw [if_pos k]
        exact t_bad hs (fun x hx => by rw [hρ x hx]; decide) k
      · rw [if_neg k]
        exact ⟨ρ, C', tch.rf _, hρ, hC, hs, hb, k⟩
    | true =>
      rw [if_pos rfl]
      obtain ⟨-, -, -, -, -, w1, w2⟩ := hB_t hb
      have s1 : tch n b q (1, e, ρ ++ σ, C', d) (0, sWe n b e, 10 :: σ, C ++ c, d) := by
        refine tch.st ?_
        show tStG n b (sSk n b e) (ρ ++ σ) C' d = _
        rw [hs]
        unfold tStG
        rw [if_neg (fun g => (hB_at hb).2.2 g.1), if_pos hb, popW_app is10 ρ σ C' (fun x hx => by rw [hρ x hx]; rfl) (fun x τ e => (hσ x τ e).2), hC]
      have ha1 := ha (sWe n b e) (10 :: σ) (C ++ c)
      cases qa : fact (sWe n b e) with
      | inl g =>
        rw [qa] at ha1
        exact Or.inl (s1.tr ha1)
      | inr p =>
        obtain ⟨c2, e2⟩ := p
        rw [qa] at ha1
        have ha1 : tch n b q (0, sWe n b e, 10 :: σ, C ++ c, d) (tE n b e2 (10 :: σ) (C ++ c ++ c2) d) := ha1
        rw [show tE n b e2 (10 :: σ) (C ++ c ++ c2) d = (1, sSk n b e2, [10] ++ σ, C ++ c ++ c2, d) by
          unfold tE
          rw [dnot_tp (fun x τ e => by cases e; decide)]
          rfl] at ha1
        obtain ⟨g1, g2⟩ := hp _ _ _ qa
        have g3 := sSk_ge n b (sWe n b e)
        have g4 := sSk_ge n b e2
        obtain ⟨f, rfl⟩ : ∃ f', f = f' + 1 := ⟨f - 1, by omega⟩
        have ih := tCh_A ha hp hσ C (f + 1) (c ++ c2 ++ [10]) (sSk n b e2) [10] (C ++ c ++ c2) (sSk_id n b e2) (sSk_le b g2) (by omega) (fun x hx => List.mem_singleton.mp hx) (by simp [List.append_assoc])
        rw [chW_id] at ih
        rw [sbd_r]
        cases qr : rChainW n b fact wAnd 10 (f + 1) (c ++ c2 ++ [10]) e2 with
        | inl g =>
          rw [qr] at ih
          exact tFl.tr (s1.tr ha1) ih
        | inr p =>
          obtain ⟨c4, e4⟩ := p
          rw [qr] at ih
          obtain ⟨ρ', C2, i1, i2⟩ := ih
          exact ⟨ρ', C2, (s1.tr ha1).tr i1, i2⟩
/-- facts joined by 'and' -/
def tBo (n : Nat) (b : Nat → Nat) (q : Nat) (both : Nat → RS (List Int32)) (d : Nat) : Prop := ∀ i σ C, tpN σ → match both i with
  | .inl g => tFl n b q d σ (0, i, σ, C, d) g
  | .inr (c, e) => ∃ ρ C', tch n b q (0, i, σ, C, d) (1, e, ρ ++ σ, C', d) ∧ (∀ x, x ∈ ρ → x = 10) ∧ C' ++ ρ = C ++ c ∧ sSk n b e = e ∧ hB n b e wAnd = false ∧ ¬ (isL (rB n b e) = true ∧ pv b e = true)
theorem tBo_of {fact : Nat → RS (List Int32)} {d : Nat} (ha : tFa n b q fact d) (hp : rPg n b fact) : tBo n b q (rBothO n b fact) d := by
  intro i σ C hσ
  have ha1 := ha i σ C
  unfold rBothO
  cases qa : fact i with
  | inl g =>
    rw [qa] at ha1
    exact Or.inl ha1
  | inr p =>
    obtain ⟨c, e⟩ := p
    rw [qa] at ha1
    have ha1 : tch n b q (0, i, σ, C, d) (tE n b e σ (C ++ c) d) := ha1
    rw [show tE n b e σ (C ++ c) d = (1, sSk n b e, [] ++ σ, C ++ c, d) by
      unfold tE
      rw [dnot_tp (fun x τ e => (hσ x τ e).1)]
      rfl] at ha1
    obtain ⟨g1, g2⟩ := hp _ _ _ qa
    have ih := tCh_A ha hp hσ C (n + 1) c (sSk n b e) [] (C ++ c) (sSk_id n b e) (sSk_le b g2) (by omega) (fun x hx => absurd hx (by simp)) (by simp)
    rw [chW_id] at ih
    rw [sbd_r]
    cases qr : rChainW n b fact wAnd 10 (n + 1) c e with
    | inl g =>
      rw [qr] at ih
      exact tFl.tr ha1 ih
    | inr p =>
      obtain ⟨c4, e4⟩ := p
      rw [qr] at ih
      obtain ⟨ρ', C2, i1, i2⟩ := ih
      exact ⟨ρ', C2, ha1.tr i1, i2⟩
theorem tCh_O {both : Nat → RS (List Int32)} {d : Nat} (ha : tBo n b q both d) (hp : rPg n b both) {σ : List Int32} (hσ : tpQ σ) (C : List Int32) : ∀ (f : Nat) (c : List Int32) (e : Nat) (ρ C' : List Int32), sSk n b e = e → e ≤ n → n < f + e → (∀ x, x ∈ ρ → is11 x = true) → C' ++ ρ = C ++ c → hB n b e wAnd = false →
    match rChainW n b both wOr 11 f c e with
    | .inl g => tFl n b q d σ (1, e, ρ ++ σ, C', d) g
    | .inr (c2, e2) => ∃ ρ' C2, tch n b q (1, e, ρ ++ σ, C', d) (1, e2, ρ' ++ σ, C2, d) ∧ (∀ x, x ∈ ρ' → is11 x = true) ∧ C2 ++ ρ' = C ++ c2 ∧ sSk n b e2 = e2 ∧ hB n b e2 wAnd = false ∧ hB n b e2 wOr = false ∧ ¬ (isL (rB n b e2) = true ∧ pv b e2 = true)
  | 0, c, e, ρ, C', hs, h1, h2, _, _, _ => absurd h2 (by omega)
  | f + 1, c, e, ρ, C', hs, h1, h2, hρ, hC, hA => by
    rw [chW_s hs]
    have n25 : ∀ x, x ∈ ρ → x ≠ 25 := fun x hx e => by
      have := hρ x hx
      rw [e] at this
      exact absurd this (by decide)
    cases hb : hB n b e wOr with
    | false =>
      rw [if_neg (by decide)]
      by_cases k : isL (rB n b e) = true ∧ pv b e = true
      · rw [if_pos k]
        exact t_bad hs n25 k
      · rw [if_neg k]
        exact ⟨ρ, C', tch.rf _, hρ, hC, hs, hA, hb, k⟩
    | true =>
      rw [if_pos rfl]
      obtain ⟨-, -, -, -, -, w1, w2⟩ := hB_t hb
      have s1 : tch n b q (1, e, ρ ++ σ, C', d) (0, sWe n b e, 11 :: σ, C ++ c, d) := by
        refine tch.st ?_
        show tStG n b (sSk n b e) (ρ ++ σ) C' d = _
        rw [hs]
        unfold tStG
        rw [if_neg (fun g => (hB_at hb).2.2 g.1), if_neg (by rw [hA]; decide), if_pos hb, popW_app is11 ρ σ C' hρ (fun x τ e => by rw [hσ x τ e]; decide), hC]
      have ha1 := ha (sWe n b e) (11 :: σ) (C ++ c) (fun x τ e => by cases e; decide)
      have f25 : has25 (11 :: σ) = has25 σ := by
        show (decide ((11 : Int32) = 25) || has25 σ) = _
        rw [show decide ((11 : Int32) = 25) = false by decide]
        rfl
      cases qa : both (sWe n b e) with
      | inl g =>
        rw [qa] at ha1
        have ha1 : tFl n b q d (11 :: σ) (0, sWe n b e, 11 :: σ, C ++ c, d) g := ha1
        unfold tFl at ha1
        rw [f25] at ha1
        exact tFl.tr s1 ha1
      | inr p =>
        obtain ⟨c2, e2⟩ := p
        rw [qa] at ha1
        obtain ⟨ρ2, C2, a1, a2, a3, a4, a5, a6⟩ := ha1
        obtain ⟨g1, g2⟩ := hp _ _ _ qa
        have g3 := sSk_ge n b (sWe n b e)
        have ih := tCh_O ha hp hσ C f (c ++ c2 ++ [11]) e2 (ρ2 ++ [11]) C2 a4 g2 (by omega) (fun x hx => by
          rcases List.mem_append.mp hx with hx | hx
          · rw [a2 x hx]; decide
          · rw [List.mem_singleton.mp hx]; decide) (by rw [← List.append_assoc, a3]; simp [List.append_assoc]) a5
        rw [show ρ2 ++ [11] ++ σ = ρ2 ++ 11 :: σ by simp] at ih
        rw [sbd_r]
        cases qr : rChainW n b both wOr 11 f (c ++ c2 ++ [11]) e2 with
        | inl g =>
          rw [qr] at ih
          exact tFl.tr (s1.tr a1) ih
        | inr p =>
          obtain ⟨c4, e4⟩ := p
          rw [qr] at ih
          obtain ⟨ρ', C2, i1, i2⟩ := ih
          exact ⟨ρ', C2, (s1.tr a1).tr i1, i2⟩
def tTe (n : Nat) (b : Nat → Nat) (q : Nat) (test : Nat → RS (List Int32)) (d : Nat) : Prop := ∀ i σ C, tpQ σ → match test i with
  | .inl g => tFl n b q d σ (0, i, σ, C, d) g
  | .inr (c, e) => ∃ ρ C', tch n b q (0, i, σ, C, d) (1, e, ρ ++ σ, C', d) ∧ (∀ x, x ∈ ρ → is11 x = true) ∧ C' ++ ρ = C ++ c ∧ sSk n b e = e ∧ hB n b e wAnd = false ∧ hB n b e wOr = false ∧ ¬ (isL (rB n b e) = true ∧ pv b e = true)
theorem tTe_of {fact : Nat → RS (List Int32)} {d : Nat} (ha : tFa n b q fact d) (hp : rPg n b fact) : tTe n b q (rTestO n b fact) d := by
  intro i σ C hσ
  have ha1 := tBo_of ha hp i σ C hσ.tn
  unfold rTestO
  cases qa : rBothO n b fact i with
  | inl g =>
    rw [qa] at ha1
    exact ha1
  | inr p =>
    obtain ⟨c, e⟩ := p
    rw [qa] at ha1
    obtain ⟨ρ2, C2, a1, a2, a3, a4, a5, a6⟩ := ha1
    obtain ⟨g1, g2⟩ := rBothO_pg hp _ _ _ qa
    have ih := tCh_O (tBo_of ha hp) (rBothO_pg hp) hσ C (n + 1) c e ρ2 C2 a4 g2 (by omega) (fun x hx => by rw [a2 x hx]; decide) a3 a5
    rw [sbd_r]
    cases qr : rChainW n b (rBothO n b fact) wOr 11 (n + 1) c e with
    | inl g =>
      rw [qr] at ih
      exact tFl.tr a1 ih
    | inr p =>
      obtain ⟨c4, e4⟩ := p
      rw [qr] at ih
      obtain ⟨ρ', C2, i1, i2⟩ := ih
      exact ⟨ρ', C2, a1.tr i1, i2⟩
theorem t_close {e d : Nat} {ρ σ C' : List Int32} (hs : sSk n b e = e) (hρ : ∀ x, x ∈ ρ → is11 x = true) (hA : hB n b e wAnd = false) (hO : hB n b e wOr = false) :
    match rMust n b 93 e with
    | .inl g => tch n b q (1, e, ρ ++ 25 :: σ, C', d + 1) (qF g.1 g.2)
    | .inr (_, e2) => tch n b q (1, e, ρ ++ 25 :: σ, C', d + 1) (tE n b e2 σ (C' ++ ρ) d) := by
  have n25 : ∀ x, x ∈ ρ → x ≠ 25 := fun x hx e => by
    have := hρ x hx
    rw [e] at this
    exact absurd this (by decide)
  have h25 : has25 (ρ ++ 25 :: σ) = true := by
    rw [has25_app ρ _ n25]
    rfl
  unfold rMust
  rw [hs]
  by_cases c : rB n b e = 93
  · rw [if_pos c]
    refine tch.st ?_
    show tStG n b (sSk n b e) (ρ ++ 25 :: σ) C' (d + 1) = _
    rw [hs]
    unfold tStG
    rw [if_pos ⟨c, h25⟩, spq_app ρ σ n25]
    rfl
  · rw [if_neg c]
    refine tch.st ?_
    show tStG n b (sSk n b e) (ρ ++ 25 :: σ) C' (d + 1) = _
    rw [hs]
    unfold tStG
    rw [if_neg (fun g => c g.1), if_neg (by rw [hA]; decide), if_neg (by rw [hO]; decide), if_pos h25]
theorem t_factB {dp : Bool} {test fact : Nat → RS (List Int32)} {r d : Nat} (hr : r = 6 - d) (hd : dp = false → d = 6) (hd2 : dp = true → d < 6 ∧ tTe n b q test (d + 1) ∧ tFa n b q fact (d + 1)) (i : Nat) (σ C : List Int32) :
    match rFactB n b dp (rSum n b q r) test fact (sSk n b i) with
    | .inl g => tch n b q (0, i, σ, C, d) (qF g.1 g.2)
    | .inr (c, e) => tch n b q (0, i, σ, C, d) (tE n b e σ (C ++ c) d) := by
  have st : tSt n b q (0, i, σ, C, d) = tStE n b q (sSk n b i) σ C d := rfl
  generalize sSk n b i = j at st
  unfold rFactB
  unfold tStE at st
  subst hr
  by_cases c1 : rB n b j = 91
  · rw [if_pos c1] at st ⊢
    cases dp with
    | false =>
      rw [if_pos (hd rfl)] at st
      rw [if_pos rfl]
      exact tch.st st
    | true =>
      obtain ⟨d1, d2, d3⟩ := hd2 rfl
      rw [if_neg (by omega)] at st
      rw [if_neg (by decide)]
      have h1 := d2 (j + 1) (25 :: σ) C (fun x τ e => by cases e; rfl)
      cases qt : test (j + 1) with
      | inl g =>
        rw [qt] at h1
        rcases h1 with h1 | ⟨h1, -⟩
        · exact (tch.st st).tr h1
        · cases h1
      | inr p =>
        obtain ⟨c, e⟩ := p
        rw [qt] at h1
        obtain ⟨ρ, C', a1, a2, a3, a4, a5, a6, a7⟩ := h1
        have h2 := t_close (q := q) (d := d) (σ := σ) (C' := C') a4 a2 a5 a6
        rw [sbd_r]
        cases qm : rMust n b 93 e with
        | inl g =>
          rw [qm] at h2
          exact ((tch.st st).tr a1).tr h2
        | inr p =>
          obtain ⟨u, e2⟩ := p
          rw [qm] at h2
          have h2 : tch n b q (1, e, ρ ++ 25 :: σ, C', d + 1) (tE n b e2 σ (C' ++ ρ) d) := h2
          rw [a3] at h2
          exact ((tch.st st).tr a1).tr h2
  rw [if_neg c1] at st ⊢
  have cmp : tSt n b q (0, i, σ, C, d) = tStC n b q j σ C d → match rCmp n b (rSum n b q (6 - d)) j with
    | .inl g => tch n b q (0, i, σ, C, d) (qF g.1 g.2)
    | .inr (c, e) => tch n b q (0, i, σ, C, d) (tE n b e σ (C ++ c) d) := by
    intro st
    unfold tStC at st
    cases qc : rCmp n b (rSum n b q (6 - d)) j with
    | inl g => rw [qc] at st; exact tch.st st
    | inr p =>
      obtain ⟨c, e⟩ := p
      rw [qc] at st
      exact tch.st st
  cases qw : rWordJ n b j with
  | inl g =>
    have nb : ∀ W, hB n b j W = false := fun W => by unfold hB; rw [qw]
    rw [nb, nb, if_neg (by decide), if_neg (by decide)] at st
    exact cmp st
  | inr p =>
    obtain ⟨v, e⟩ := p
    obtain ⟨-, -, -, -, q5, -⟩ := rWordJ_r qw
    rw [hB_f qw, hB_f qw] at st
    show match (if v.1 = wNot then (if dp = false then .inl (4, j) else sbd (fact e) fun c e2 => .inr (c ++ [12], e2)) else if v.1 = wAll then .inr ([13], e) else rCmp n b (rSum n b q (6 - d)) j : RS (List Int32)) with
      | .inl g => tch n b q (0, i, σ, C, d) (qF g.1 g.2)
      | .inr (c, e) => tch n b q (0, i, σ, C, d) (tE n b e σ (C ++ c) d)
    by_cases k1 : v.1 = wNot
    · rw [if_pos k1]
      rw [decide_eq_true k1, if_pos rfl] at st
      cases dp with
      | false =>
        rw [if_pos (hd rfl)] at st
        rw [if_pos rfl]
        exact tch.st st
      | true =>
        obtain ⟨d1, d2, d3⟩ := hd2 rfl
        rw [if_neg (by omega), ← q5] at st
        rw [if_neg (by decide)]
        have h1 := d3 e (12 :: σ) C
        cases qa : fact e with
        | inl g => rw [qa] at h1; exact (tch.st st).tr h1
        | inr p =>
          obtain ⟨c, e2⟩ := p
          rw [qa] at h1
          have h1 : tch n b q (0, e, 12 :: σ, C, d + 1) (tE n b e2 (12 :: σ) (C ++ c) (d + 1)) := h1
          have e3 : tE n b e2 (12 :: σ) (C ++ c) (d + 1) = tE n b e2 σ (C ++ (c ++ [12])) d := by
            unfold tE
            rw [show dnot (12 :: σ) (C ++ c) (d + 1) = dnot σ (C ++ c ++ [12]) d from by
              show (if (12 : Int32) = 12 then dnot σ (C ++ c ++ [12]) (d + 1 - 1) else _) = _
              rw [if_pos rfl]
              rfl, List.append_assoc]
          rw [e3] at h1
          exact (tch.st st).tr h1
    · rw [if_neg k1]
      rw [decide_eq_false k1, if_neg (by decide)] at st
      by_cases k2 : v.1 = wAll
      · rw [if_pos k2]
        rw [decide_eq_true k2, if_pos rfl, ← q5] at st
        exact tch.st st
      · rw [if_neg k2]
        rw [decide_eq_false k2, if_neg (by decide)] at st
        exact cmp st
theorem t_fact : ∀ (r d : Nat), r + d = 6 → tFa n b q (rFact n b q r) d
  | 0, d, h => fun i σ C => t_factB (by omega) (fun _ => by omega) (fun h => by cases h) i σ C
  | r + 1, d, h => fun i σ C => t_factB (by omega) (fun h => by cases h) (fun _ => ⟨by omega, tTe_of (t_fact r (d + 1) (by omega)) (rFact_pg n b q r), t_fact r (d + 1) (by omega)⟩) i σ C
/-- a test as a whole -/
theorem t_test (i : Nat) :
    match rTest n b q 6 i with
    | .inl g => tFl n b q 0 [] (0, i, [], [], 0) g
    | .inr (c, e) => tch n b q (0, i, [], [], 0) (2, e, [], c, 0) ∧ sSk n b e = e := by
  have h1 := tTe_of (t_fact (n := n) (b := b) (q := q) 6 0 rfl) (rFact_pg n b q 6) i [] [] (fun x τ e => by cases e)
  have e : rTestO n b (rFact n b q 6) i = rTest n b q 6 i := rfl
  rw [e] at h1
  cases qs : rTest n b q 6 i with
  | inl g => rw [qs] at h1; exact h1
  | inr p =>
    obtain ⟨c, e⟩ := p
    rw [qs] at h1
    obtain ⟨ρ, C', a1, a2, a3, a4, a5, a6, a7⟩ := h1
    refine ⟨a1.tr (tch.st ?_), a4⟩
    show tStG n b (sSk n b e) (ρ ++ []) C' 0 = _
    have n25 : ∀ x, x ∈ ρ → x ≠ 25 := fun x hx e => by
      have := a2 x hx
      rw [e] at this
      exact absurd this (by decide)
    have h25 : has25 ρ = false := by
      have := has25_app ρ [] n25
      rw [List.append_nil] at this
      exact this
    rw [a4, List.append_nil]
    unfold tStG
    rw [if_neg (by rw [h25]; exact fun g => absurd g.2 (by decide)), if_neg (by rw [a5]; decide), if_neg (by rw [a6]; decide), if_neg (by rw [h25]; decide), a3, List.nil_append]
end TCH
