/-! PART 10: plain: the reader's law (what a text says), as a descent -/
set_option maxRecDepth 100000
def isL (x : Nat) : Bool := decide (97 ≤ x ∧ x ≤ 122)
def isD (x : Nat) : Bool := decide (48 ≤ x ∧ x ≤ 57)
def isB (x : Nat) : Bool := decide (x = 32 ∨ x = 10)
/-- from i on, m bytes at most: the first place that P does not hold at -/
def sWhF (P : Nat → Bool) (b : Nat → Nat) : Nat → Nat → Nat
  | 0, i => i
  | m + 1, i => if P (b i) = true then sWhF P b m (i + 1) else i
/-- behind the blanks -/
def sSk (n : Nat) (b : Nat → Nat) (i : Nat) : Nat := sWhF isB b (n - i) i
/-- behind the word -/
def sWe (n : Nat) (b : Nat → Nat) (i : Nat) : Nat := sWhF isL b (n - i) i
/-- behind the digits -/
def sDe (n : Nat) (b : Nat → Nat) (i : Nat) : Nat := sWhF isD b (n - i) i
/-- the byte at i, 256 behind the end -/
def rB (n : Nat) (b : Nat → Nat) (i : Nat) : Nat := if i < n then b i else 256
/-- a word or number ends right before i -/
def pv (b : Nat → Nat) (i : Nat) : Bool := decide (0 < i) && (isL (b (i - 1)) || isD (b (i - 1)))
theorem sWhF_ge (P : Nat → Bool) (b : Nat → Nat) : ∀ m i, i ≤ sWhF P b m i ∧ sWhF P b m i ≤ i + m
  | 0, i => ⟨Nat.le_refl _, Nat.le_refl _⟩
  | m + 1, i => by
    show i ≤ (if P (b i) = true then sWhF P b m (i + 1) else i) ∧ (if P (b i) = true then sWhF P b m (i + 1) else i) ≤ i + (m + 1)
    have := sWhF_ge P b m (i + 1)
    split <;> omega
theorem sWhF_in (P : Nat → Bool) (b : Nat → Nat) : ∀ m i j, i ≤ j → j < sWhF P b m i → P (b j) = true
  | 0, i, j, h1, h2 => absurd h2 (by show ¬ j < i; omega)
  | m + 1, i, j, h1, h2 => by
    have h2 : j < (if P (b i) = true then sWhF P b m (i + 1) else i) := h2
    by_cases c : P (b i) = true
    · rw [if_pos c] at h2
      by_cases e : j = i
      · rw [e]; exact c
      · exact sWhF_in P b m (i + 1) j (by omega) h2
    · rw [if_neg c] at h2
      omega
theorem sWhF_at (P : Nat → Bool) (b : Nat → Nat) : ∀ m i, sWhF P b m i < i + m → P (b (sWhF P b m i)) = false
  | 0, i, h => absurd h (by show ¬ i < i + 0; omega)
  | m + 1, i, h => by
    have e : sWhF P b (m + 1) i = if P (b i) = true then sWhF P b m (i + 1) else i := rfl
    rw [e] at h ⊢
    by_cases c : P (b i) = true
    · rw [if_pos c] at h ⊢
      exact sWhF_at P b m (i + 1) (by omega)
    · rw [if_neg c]
      cases q : P (b i) with
      | false => rfl
      | true => exact absurd q c
theorem sWhF_stop (P : Nat → Bool) (b : Nat → Nat) : ∀ m i, (0 < m → P (b i) = false) → sWhF P b m i = i
  | 0, i, _ => rfl
  | m + 1, i, h => by
    show (if P (b i) = true then sWhF P b m (i + 1) else i) = i
    rw [if_neg (by rw [h (Nat.succ_pos _)]; decide)]
theorem sSk_ge (n : Nat) (b : Nat → Nat) (i : Nat) : i ≤ sSk n b i := (sWhF_ge isB b (n - i) i).1
theorem sSk_le {n : Nat} (b : Nat → Nat) {i : Nat} (h : i ≤ n) : sSk n b i ≤ n := by
  have := (sWhF_ge isB b (n - i) i).2
  unfold sSk
  omega
theorem sSk_nb {n : Nat} {b : Nat → Nat} {i : Nat} (h : sSk n b i < n) : isB (b (sSk n b i)) = false := by
  have h1 := sSk_ge n b i
  have h2 : sWhF isB b (n - i) i < n := h
  exact sWhF_at isB b (n - i) i (by omega)
theorem sSk_fix {n : Nat} {b : Nat → Nat} {i : Nat} (h : i < n → isB (b i) = false) : sSk n b i = i := sWhF_stop isB b (n - i) i (fun q => h (by omega))
theorem sSk_id (n : Nat) (b : Nat → Nat) (i : Nat) : sSk n b (sSk n b i) = sSk n b i := sSk_fix sSk_nb
theorem sSk_bl {n : Nat} {b : Nat → Nat} {i : Nat} (h : i < n) (hb : isB (b i) = true) : sSk n b i = sSk n b (i + 1) := by
  unfold sSk
  rw [show n - i = (n - (i + 1)) + 1 by omega]
  show (if isB (b i) = true then sWhF isB b (n - (i + 1)) (i + 1) else i) = _
  rw [if_pos hb]
theorem rB_lt {n : Nat} {b : Nat → Nat} {i s : Nat} (h : rB n b i = s) (hs : s < 256) : i < n ∧ b i = s := by
  unfold rB at h
  by_cases c : i < n
  · rw [if_pos c] at h; exact ⟨c, h⟩
  · rw [if_neg c] at h; omega
theorem isL_lt {n : Nat} {b : Nat → Nat} {i : Nat} (h : isL (rB n b i) = true) : i < n ∧ isL (b i) = true := by
  unfold rB at h
  by_cases c : i < n
  · rw [if_pos c] at h; exact ⟨c, h⟩
  · rw [if_neg c] at h; exact absurd h (by decide)
theorem isD_lt {n : Nat} {b : Nat → Nat} {i : Nat} (h : isD (rB n b i) = true) : i < n ∧ isD (b i) = true := by
  unfold rB at h
  by_cases c : i < n
  · rw [if_pos c] at h; exact ⟨c, h⟩
  · rw [if_neg c] at h; exact absurd h (by decide)
theorem sWe_gt {n : Nat} {b : Nat → Nat} {i : Nat} (h : i < n) (hl : isL (b i) = true) : i < sWe n b i ∧ sWe n b i ≤ n := by
  have h1 := (sWhF_ge isL b (n - i) i).2
  have h2 : sWe n b i = sWhF isL b (n - (i + 1)) (i + 1) := by
    unfold sWe
    rw [show n - i = (n - (i + 1)) + 1 by omega]
    show (if isL (b i) = true then sWhF isL b (n - (i + 1)) (i + 1) else i) = _
    rw [if_pos hl]
  have h3 := (sWhF_ge isL b (n - (i + 1)) (i + 1)).1
  have h4 : sWe n b i ≤ i + (n - i) := h1
  omega
theorem sDe_gt {n : Nat} {b : Nat → Nat} {i : Nat} (h : i < n) (hl : isD (b i) = true) : i < sDe n b i ∧ sDe n b i ≤ n := by
  have h1 := (sWhF_ge isD b (n - i) i).2
  have h2 : sDe n b i = sWhF isD b (n - (i + 1)) (i + 1) := by
    unfold sDe
    rw [show n - i = (n - (i + 1)) + 1 by omega]
    show (if isD (b i) = true then sWhF isD b (n - (i + 1)) (i + 1) else i) = _
    rw [if_pos hl]
  have h3 := (sWhF_ge isD b (n - (i + 1)) (i + 1)).1
  have h4 : sDe n b i ≤ i + (n - i) := h1
  omega
/-! what is read: a fault (kind, place), or a value and the place behind -/
abbrev RS (α : Type) : Type := (Nat × Nat) ⊕ (α × Nat)
def sbd {α β : Type} (r : RS α) (k : α → Nat → RS β) : RS β := match r with
  | .inl f => .inl f
  | .inr (a, i) => k a i
theorem sbd_l {α β : Type} (f : Nat × Nat) (k : α → Nat → RS β) : sbd (.inl f) k = .inl f := rfl
theorem sbd_r {α β : Type} (a : α) (i : Nat) (k : α → Nat → RS β) : sbd (.inr (a, i)) k = k a i := rfl
def seg (b : Nat → Nat) : Nat → Nat → List Nat
  | _, 0 => []
  | i, m + 1 => b i :: seg b (i + 1) m
theorem seg_len (b : Nat → Nat) : ∀ m i, (seg b i m).length = m
  | 0, _ => rfl
  | m + 1, i => by
    show (seg b (i + 1) m).length + 1 = m + 1
    rw [seg_len b m (i + 1)]
def rWordJ (n : Nat) (b : Nat → Nat) (j : Nat) : RS (List Nat × Nat) := if isL (rB n b j) = true ∧ pv b j = false then .inr ((seg b j (sWe n b j - j), j), sWe n b j) else .inl (1, j)
def rWord (n : Nat) (b : Nat → Nat) (i : Nat) : RS (List Nat × Nat) := rWordJ n b (sSk n b i)
def rMust (n : Nat) (b : Nat → Nat) (s i : Nat) : RS Unit := if rB n b (sSk n b i) = s then .inr ((), sSk n b i + 1) else .inl (1, sSk n b i)
/-- the number that m digits from i on tell -/
def numV (b : Nat → Nat) : Nat → Nat → Nat → Nat
  | 0, _, v => v
  | m + 1, i, v => numV b m (i + 1) (10 * v + b i - 48)
def rNumJ (n : Nat) (b : Nat → Nat) (lo hi j : Nat) : RS Nat :=
  if isD (rB n b j) = true ∧ pv b j = false then
    (if 4 < sDe n b j - j then .inl (1, j + 4) else
      if lo ≤ numV b (sDe n b j - j) j 0 ∧ numV b (sDe n b j - j) j 0 ≤ hi then .inr (numV b (sDe n b j - j) j 0, sDe n b j) else .inl (2, j))
  else .inl (1, j)
def rNum (n : Nat) (b : Nat → Nat) (lo hi i : Nat) : RS Nat := rNumJ n b lo hi (sSk n b i)
def wMin : List Nat := [109, 105, 110]
def wMax : List Nat := [109, 97, 120]
def wBy : List Nat := [98, 121]
def wNot : List Nat := [110, 111, 116]
def wAnd : List Nat := [97, 110, 100]
def wOr : List Nat := [111, 114]
def wAll : List Nat := [97, 108, 108]
def prtW : List (List Nat) := [[99, 97, 108, 109], [114, 105, 103, 104, 116], [119, 114, 111, 110, 103], [121, 101, 97, 114], [119, 111, 114, 116, 104], [99, 108, 97, 115, 115], [109, 99, 97, 108, 109], [108, 101, 102, 116], [109, 97, 114, 107, 115], [110, 117, 109, 98, 101, 114], [107, 110, 111, 119, 115], [101, 114, 114, 115]]
def fndW : List (List Nat) → List Nat → Nat → Option Nat
  | [], _, _ => none
  | x :: xs, w, k => if x = w then some k else fndW xs w (k + 1)
def rWithin (n : Nat) (b : Nat → Nat) (dp : Bool) (sum : Nat → RS (List Int32)) (x j : Nat) : RS (List Int32) :=
  if rB n b j = 40 then
    (if dp = false then .inl (4, j) else sbd (sum (j + 1)) fun c1 e1 =>
      if x = 0 then sbd (rMust n b 41 e1) fun _ e2 => .inr (c1, e2)
      else sbd (rMust n b 44 e1) fun _ e2 => sbd (sum e2) fun c2 e3 => sbd (rMust n b 41 e3) fun _ e4 => .inr (c1 ++ c2 ++ [if x = 2 then 6 else 5], e4))
  else .inl (1, j)
def rAtomW (n : Nat) (b : Nat → Nat) (q : Nat) (dp : Bool) (sum atom : Nat → RS (List Int32)) (w : List Nat) (j e : Nat) : RS (List Int32) :=
  if w = wBy ∧ q = 2 then (if dp = false then .inl (4, j) else sbd (atom e) fun c e2 => .inr (c ++ [60], e2))
  else if w = wMin then rWithin n b dp sum 1 (sSk n b e)
  else if w = wMax then rWithin n b dp sum 2 (sSk n b e)
  else .inl (1, j)
def prtA (q : Nat) (w : List Nat) : Option Nat := match fndW prtW w 0 with
  | some k => if alOf q k = true then some k else none
  | none => none
def rAtomB (n : Nat) (b : Nat → Nat) (q : Nat) (dp : Bool) (sum atom : Nat → RS (List Int32)) (j : Nat) : RS (List Int32) :=
  if rB n b j = 40 then rWithin n b dp sum 0 j
  else if isD (rB n b j) = true then sbd (rNumJ n b 0 9999 j) fun v e => .inr ([nI (1000 + v)], e)
  else sbd (rWordJ n b j) fun w e => match prtA q w.1 with
    | some k => .inr ([nI (40 + k)], e)
    | none => rAtomW n b q dp sum atom w.1 w.2 e
def rChain (n : Nat) (b : Nat → Nat) (part : Nat → RS (List Int32)) (op : Nat → Option Int32) : Nat → List Int32 → Nat → RS (List Int32)
  | 0, c, i => .inr (c, i)
  | f + 1, c, i => match op (rB n b (sSk n b i)) with
    | none => .inr (c, sSk n b i)
    | some o => sbd (part (sSk n b i + 1)) fun c2 e => rChain n b part op f (c ++ c2 ++ [o]) e
def opM (s : Nat) : Option Int32 := if s = 42 then some 3 else if s = 47 then some 4 else none
def opA (s : Nat) : Option Int32 := if s = 43 then some 1 else if s = 45 then some 2 else none
def rProd (n : Nat) (b : Nat → Nat) (atom : Nat → RS (List Int32)) (i : Nat) : RS (List Int32) := sbd (atom i) fun c e => rChain n b atom opM (n + 1) c e
def rSumO (n : Nat) (b : Nat → Nat) (atom : Nat → RS (List Int32)) (i : Nat) : RS (List Int32) := sbd (rProd n b atom i) fun c e => rChain n b (rProd n b atom) opA (n + 1) c e
def rBad (_ : Nat) : RS (List Int32) := .inl (0, 0)
/-- r more may be opened -/
def rAtom (n : Nat) (b : Nat → Nat) (q : Nat) : Nat → (Nat → RS (List Int32))
  | 0 => fun i => rAtomB n b q false rBad rBad (sSk n b i)
  | r + 1 => fun i => rAtomB n b q true (rSumO n b (rAtom n b q r)) (rAtom n b q r) (sSk n b i)
def rSum (n : Nat) (b : Nat → Nat) (q r i : Nat) : RS (List Int32) := rSumO n b (rAtom n b q r) i
def rChainW (n : Nat) (b : Nat → Nat) (part : Nat → RS (List Int32)) (w : List Nat) (o : Int32) : Nat → List Int32 → Nat → RS (List Int32)
  | 0, c, i => .inr (c, i)
  | f + 1, c, i => match rWordJ n b (sSk n b i) with
    | .inr (v, e) => if v.1 = w then sbd (part e) fun c2 e2 => rChainW n b part w o f (c ++ c2 ++ [o]) e2 else .inr (c, sSk n b i)
    | .inl g => if isL (rB n b (sSk n b i)) = true then .inl g else .inr (c, sSk n b i)
def rCmp (n : Nat) (b : Nat → Nat) (sum : Nat → RS (List Int32)) (j : Nat) : RS (List Int32) :=
  sbd (sum j) fun c1 e1 =>
    if rB n b (sSk n b e1) = 60 ∨ rB n b (sSk n b e1) = 61 ∨ rB n b (sSk n b e1) = 62 then
      sbd (sum (sSk n b e1 + 1)) fun c2 e2 => .inr (c1 ++ c2 ++ [if rB n b (sSk n b e1) = 60 then 7 else if rB n b (sSk n b e1) = 62 then 8 else 9], e2)
    else .inl (1, sSk n b e1)
def rFactB (n : Nat) (b : Nat → Nat) (dp : Bool) (sum test fact : Nat → RS (List Int32)) (j : Nat) : RS (List Int32) :=
  if rB n b j = 91 then (if dp = false then .inl (4, j) else sbd (test (j + 1)) fun c e => sbd (rMust n b 93 e) fun _ e2 => .inr (c, e2))
  else match rWordJ n b j with
    | .inr (v, e) => if v.1 = wNot then (if dp = false then .inl (4, j) else sbd (fact e) fun c e2 => .inr (c ++ [12], e2)) else if v.1 = wAll then .inr ([13], e) else rCmp n b sum j
    | .inl _ => rCmp n b sum j
def rBothO (n : Nat) (b : Nat → Nat) (fact : Nat → RS (List Int32)) (i : Nat) : RS (List Int32) := sbd (fact i) fun c e => rChainW n b fact wAnd 10 (n + 1) c e
def rTestO (n : Nat) (b : Nat → Nat) (fact : Nat → RS (List Int32)) (i : Nat) : RS (List Int32) := sbd (rBothO n b fact i) fun c e => rChainW n b (rBothO n b fact) wOr 11 (n + 1) c e
def rFact (n : Nat) (b : Nat → Nat) (q : Nat) : Nat → (Nat → RS (List Int32))
  | 0 => fun i => rFactB n b false (rSum n b q 0) rBad rBad (sSk n b i)
  | r + 1 => fun i => rFactB n b true (rSum n b q (r + 1)) (rTestO n b (rFact n b q r)) (rFact n b q r) (sSk n b i)
def rTest (n : Nat) (b : Nat → Nat) (q r i : Nat) : RS (List Int32) := rTestO n b (rFact n b q r) i
/-! what is read lies before the end, and is not nothing -/
def rPg (n : Nat) (b : Nat → Nat) (f : Nat → RS (List Int32)) : Prop := ∀ i c e, f i = .inr (c, e) → sSk n b i < e ∧ e ≤ n
theorem sbd_inr {α β : Type} {r : RS α} {k : α → Nat → RS β} {v : β × Nat} (h : sbd r k = .inr v) : ∃ a i, r = .inr (a, i) ∧ k a i = .inr v := by
  cases r with
  | inl f => cases h
  | inr p => exact ⟨p.1, p.2, rfl, h⟩
theorem rMust_r {n : Nat} {b : Nat → Nat} {s i : Nat} (hs : s < 256) {u : Unit} {e : Nat} (h : rMust n b s i = .inr (u, e)) : i < e ∧ e ≤ n ∧ sSk n b i < n ∧ b (sSk n b i) = s ∧ e = sSk n b i + 1 := by
  unfold rMust at h
  by_cases c : rB n b (sSk n b i) = s
  · rw [if_pos c] at h
    obtain ⟨q1, q2⟩ := rB_lt c hs
    have := sSk_ge n b i
    cases h
    omega
  · rw [if_neg c] at h; cases h
theorem rWordJ_r {n : Nat} {b : Nat → Nat} {j : Nat} {w : List Nat × Nat} {e : Nat} (h : rWordJ n b j = .inr (w, e)) : j < n ∧ isL (b j) = true ∧ pv b j = false ∧ w = (seg b j (sWe n b j - j), j) ∧ e = sWe n b j ∧ j < e ∧ e ≤ n := by
  unfold rWordJ at h
  by_cases c : isL (rB n b j) = true ∧ pv b j = false
  · rw [if_pos c] at h
    obtain ⟨q1, q2⟩ := isL_lt c.1
    have := sWe_gt q1 q2
    cases h
    exact ⟨q1, q2, c.2, rfl, rfl, this⟩
  · rw [if_neg c] at h; cases h
theorem rWordJ_l {n : Nat} {b : Nat → Nat} {j : Nat} {g : Nat × Nat} (h : rWordJ n b j = .inl g) : g = (1, j) ∧ ¬ (isL (rB n b j) = true ∧ pv b j = false) := by
  unfold rWordJ at h
  by_cases c : isL (rB n b j) = true ∧ pv b j = false
  · rw [if_pos c] at h; cases h
  · rw [if_neg c] at h; cases h; exact ⟨rfl, c⟩
theorem rNumJ_r {n : Nat} {b : Nat → Nat} {lo hi j v e : Nat} (h : rNumJ n b lo hi j = .inr (v, e)) : j < n ∧ isD (b j) = true ∧ pv b j = false ∧ e = sDe n b j ∧ j < e ∧ e ≤ n ∧ e - j ≤ 4 ∧ lo ≤ v ∧ v ≤ hi ∧ v = numV b (e - j) j 0 := by
  unfold rNumJ at h
  by_cases c : isD (rB n b j) = true ∧ pv b j = false
  · rw [if_pos c] at h
    obtain ⟨q1, q2⟩ := isD_lt c.1
    have q3 := sDe_gt q1 q2
    by_cases c1 : 4 < sDe n b j - j
    · rw [if_pos c1] at h; cases h
    · rw [if_neg c1] at h
      by_cases c2 : lo ≤ numV b (sDe n b j - j) j 0 ∧ numV b (sDe n b j - j) j 0 ≤ hi
      · rw [if_pos c2] at h
        cases h
        exact ⟨q1, q2, c.2, rfl, q3.1, q3.2, by omega, c2.1, c2.2, rfl⟩
      · rw [if_neg c2] at h; cases h
  · rw [if_neg c] at h; cases h
theorem rChain_pg {n : Nat} {b : Nat → Nat} {part : Nat → RS (List Int32)} (hp : rPg n b part) {op : Nat → Option Int32} (ho : op 256 = none) : ∀ (f : Nat) (c : List Int32) (i : Nat) (c2 : List Int32) (e : Nat), i ≤ n → rChain n b part op f c i = .inr (c2, e) → i ≤ e ∧ e ≤ n
  | 0, c, i, c2, e, hi, h => by
    cases h
    exact ⟨Nat.le_refl _, hi⟩
  | f + 1, c, i, c2, e, hi, h => by
    have h : (match op (rB n b (sSk n b i)) with
      | none => .inr (c, sSk n b i)
      | some o => sbd (part (sSk n b i + 1)) fun c2 e => rChain n b part op f (c ++ c2 ++ [o]) e) = (.inr (c2, e) : RS (List Int32)) := h
    have h1 := sSk_ge n b i
    have h2 := sSk_le b hi
    cases q : op (rB n b (sSk n b i)) with
    | none =>
      rw [q] at h
      cases h
      exact ⟨h1, h2⟩
    | some o =>
      rw [q] at h
      obtain ⟨c3, e3, q1, q2⟩ := sbd_inr h
      obtain ⟨q3, q4⟩ := hp _ _ _ q1
      have q5 := sSk_ge n b (sSk n b i + 1)
      obtain ⟨q6, q7⟩ := rChain_pg hp ho f _ e3 c2 e q4 q2
      omega
theorem rProd_pg {n : Nat} {b : Nat → Nat} {atom : Nat → RS (List Int32)} (hp : rPg n b atom) : rPg n b (rProd n b atom) := by
  intro i c e h
  obtain ⟨c3, e3, q1, q2⟩ := sbd_inr h
  obtain ⟨q3, q4⟩ := hp _ _ _ q1
  have := rChain_pg hp rfl _ _ _ _ _ q4 q2
  omega
theorem rSumO_pg {n : Nat} {b : Nat → Nat} {atom : Nat → RS (List Int32)} (hp : rPg n b atom) : rPg n b (rSumO n b atom) := by
  intro i c e h
  obtain ⟨c3, e3, q1, q2⟩ := sbd_inr h
  obtain ⟨q3, q4⟩ := rProd_pg hp _ _ _ q1
  have := rChain_pg (rProd_pg hp) rfl _ _ _ _ _ q4 q2
  omega
theorem rWithin_pg {n : Nat} {b : Nat → Nat} {dp : Bool} {sum : Nat → RS (List Int32)} (hp : rPg n b sum) {x j : Nat} {c : List Int32} {e : Nat} (h : rWithin n b dp sum x j = .inr (c, e)) : j < e ∧ e ≤ n := by
  unfold rWithin at h
  by_cases c1 : rB n b j = 40
  · rw [if_pos c1] at h
    by_cases c2 : dp = false
    · rw [if_pos c2] at h; cases h
    · rw [if_neg c2] at h
      obtain ⟨c3, e3, q1, q2⟩ := sbd_inr h
      have q3 := hp _ _ _ q1
      have q5 := sSk_ge n b (j + 1)
      by_cases c4 : x = 0
      · rw [if_pos c4] at q2
        obtain ⟨c5, e5, q6, q7⟩ := sbd_inr q2
        have q8 := rMust_r (by decide) q6
        cases q7
        omega
      · rw [if_neg c4] at q2
        obtain ⟨c5, e5, q6, q7⟩ := sbd_inr q2
        have q8 := rMust_r (by decide) q6
        obtain ⟨c6, e6, q9, q10⟩ := sbd_inr q7
        have q11 := hp _ _ _ q9
        have q12 := sSk_ge n b e5
        obtain ⟨c7, e7, q13, q14⟩ := sbd_inr q10
        have q15 := rMust_r (by decide) q13
        cases q14
        omega
  · rw [if_neg c1] at h; cases h
theorem rAtomB_pg {n : Nat} {b : Nat → Nat} {q : Nat} {dp : Bool} {sum atom : Nat → RS (List Int32)} (hp : rPg n b sum) (ha : rPg n b atom) {j : Nat} {c : List Int32} {e : Nat} (h : rAtomB n b q dp sum atom j = .inr (c, e)) : j < e ∧ e ≤ n := by
  unfold rAtomB at h
  by_cases c1 : rB n b j = 40
  · rw [if_pos c1] at h
    exact rWithin_pg hp h
  rw [if_neg c1] at h
  by_cases c2 : isD (rB n b j) = true
  · rw [if_pos c2] at h
    obtain ⟨v, e3, q1, q2⟩ := sbd_inr h
    have := rNumJ_r q1
    cases q2
    omega
  rw [if_neg c2] at h
  obtain ⟨w, e3, q1, q2⟩ := sbd_inr h
  obtain ⟨q3, -, -, q4, q5, q6, q7⟩ := rWordJ_r q1
  cases q8 : prtA q w.1 with
  | some k =>
    rw [q8] at q2
    cases q2
    omega
  | none =>
    rw [q8] at q2
    have q2 : rAtomW n b q dp sum atom w.1 w.2 e3 = .inr (c, e) := q2
    unfold rAtomW at q2
    by_cases d1 : w.1 = wBy ∧ q = 2
    · rw [if_pos d1] at q2
      by_cases d2 : dp = false
      · rw [if_pos d2] at q2; cases q2
      · rw [if_neg d2] at q2
        obtain ⟨c5, e5, q9, q10⟩ := sbd_inr q2
        have := ha _ _ _ q9
        have := sSk_ge n b e3
        cases q10
        omega
    · rw [if_neg d1] at q2
      have := sSk_ge n b e3
      by_cases d2 : w.1 = wMin
      · rw [if_pos d2] at q2
        have := rWithin_pg hp q2
        omega
      · rw [if_neg d2] at q2
        by_cases d3 : w.1 = wMax
        · rw [if_pos d3] at q2
          have := rWithin_pg hp q2
          omega
        · rw [if_neg d3] at q2; cases q2
theorem rBad_pg (n : Nat) (b : Nat → Nat) : rPg n b rBad := fun i c e h => by cases h
theorem rAtom_pg (n : Nat) (b : Nat → Nat) (q : Nat) : ∀ r, rPg n b (rAtom n b q r)
  | 0 => fun i c e h => rAtomB_pg (rBad_pg n b) (rBad_pg n b) h
  | r + 1 => fun i c e h => rAtomB_pg (rSumO_pg (rAtom_pg n b q r)) (rAtom_pg n b q r) h
theorem rSum_pg (n : Nat) (b : Nat → Nat) (q r : Nat) : rPg n b (rSum n b q r) := rSumO_pg (rAtom_pg n b q r)
theorem rChainW_pg {n : Nat} {b : Nat → Nat} {part : Nat → RS (List Int32)} (hp : rPg n b part) {w : List Nat} {o : Int32} : ∀ (f : Nat) (c : List Int32) (i : Nat) (c2 : List Int32) (e : Nat), i ≤ n → rChainW n b part w o f c i = .inr (c2, e) → i ≤ e ∧ e ≤ n
  | 0, c, i, c2, e, hi, h => by
    cases h
    exact ⟨Nat.le_refl _, hi⟩
  | f + 1, c, i, c2, e, hi, h => by
    have h : (match rWordJ n b (sSk n b i) with
      | .inr (v, e) => if v.1 = w then sbd (part e) fun c2 e2 => rChainW n b part w o f (c ++ c2 ++ [o]) e2 else .inr (c, sSk n b i)
      | .inl g => if isL (rB n b (sSk n b i)) = true then .inl g else .inr (c, sSk n b i)) = (.inr (c2, e) : RS (List Int32)) := h
    have h1 := sSk_ge n b i
    have h2 := sSk_le b hi
    cases q : rWordJ n b (sSk n b i) with
    | inl g =>
      rw [q] at h
      have h : (if isL (rB n b (sSk n b i)) = true then .inl g else .inr (c, sSk n b i)) = (.inr (c2, e) : RS (List Int32)) := h
      by_cases d : isL (rB n b (sSk n b i)) = true
      · rw [if_pos d] at h; cases h
      · rw [if_neg d] at h
        cases h
        exact ⟨h1, h2⟩
    | inr v =>
      obtain ⟨v, e1⟩ := v
      rw [q] at h
      have h : (if v.1 = w then sbd (part e1) fun c2 e2 => rChainW n b part w o f (c ++ c2 ++ [o]) e2 else .inr (c, sSk n b i)) = (.inr (c2, e) : RS (List Int32)) := h
      by_cases d : v.1 = w
      · rw [if_pos d] at h
        obtain ⟨-, -, -, -, -, q5, q6⟩ := rWordJ_r q
        obtain ⟨c3, e3, q1, q2⟩ := sbd_inr h
        obtain ⟨q3, q4⟩ := hp _ _ _ q1
        have q7 := sSk_ge n b e1
        have := rChainW_pg hp f _ e3 c2 e q4 q2
        omega
      · rw [if_neg d] at h
        cases h
        exact ⟨h1, h2⟩
theorem rBothO_pg {n : Nat} {b : Nat → Nat} {fact : Nat → RS (List Int32)} (hp : rPg n b fact) : rPg n b (rBothO n b fact) := by
  intro i c e h
  obtain ⟨c3, e3, q1, q2⟩ := sbd_inr h
  obtain ⟨q3, q4⟩ := hp _ _ _ q1
  have := rChainW_pg hp _ _ _ _ _ q4 q2
  omega
theorem rTestO_pg {n : Nat} {b : Nat → Nat} {fact : Nat → RS (List Int32)} (hp : rPg n b fact) : rPg n b (rTestO n b fact) := by
  intro i c e h
  obtain ⟨c3, e3, q1, q2⟩ := sbd_inr h
  obtain ⟨q3, q4⟩ := rBothO_pg hp _ _ _ q1
  have := rChainW_pg (rBothO_pg hp) _ _ _ _ _ q4 q2
  omega
theorem rCmp_pg {n : Nat} {b : Nat → Nat} {sum : Nat → RS (List Int32)} (hp : rPg n b sum) {j : Nat} {c : List Int32} {e : Nat} (h : rCmp n b sum j = .inr (c, e)) : j < e ∧ e ≤ n := by
  obtain ⟨c1, e1, q1, q2⟩ := sbd_inr h
  have q3 := hp _ _ _ q1
  have q4 := sSk_ge n b j
  have q5 := sSk_ge n b e1
  by_cases d : rB n b (sSk n b e1) = 60 ∨ rB n b (sSk n b e1) = 61 ∨ rB n b (sSk n b e1) = 62
  · rw [if_pos d] at q2
    obtain ⟨c5, e5, q6, q7⟩ := sbd_inr q2
    have q8 := hp _ _ _ q6
    have q9 := sSk_ge n b (sSk n b e1 + 1)
    cases q7
    omega
  · rw [if_neg d] at q2; cases q2
theorem rFactB_pg {n : Nat} {b : Nat → Nat} {dp : Bool} {sum test fact : Nat → RS (List Int32)} (hs : rPg n b sum) (ht : rPg n b test) (hf : rPg n b fact) {j : Nat} {c : List Int32} {e : Nat} (h : rFactB n b dp sum test fact j = .inr (c, e)) : j < e ∧ e ≤ n := by
  unfold rFactB at h
  by_cases c1 : rB n b j = 91
  · rw [if_pos c1] at h
    by_cases c2 : dp = false
    · rw [if_pos c2] at h; cases h
    · rw [if_neg c2] at h
      obtain ⟨c3, e3, q1, q2⟩ := sbd_inr h
      have q3 := ht _ _ _ q1
      have q5 := sSk_ge n b (j + 1)
      obtain ⟨c5, e5, q6, q7⟩ := sbd_inr q2
      have q8 := rMust_r (by decide) q6
      cases q7
      omega
  rw [if_neg c1] at h
  cases q : rWordJ n b j with
  | inl g =>
    rw [q] at h
    exact rCmp_pg hs h
  | inr v =>
    obtain ⟨v, e1⟩ := v
    rw [q] at h
    have h : (if v.1 = wNot then (if dp = false then .inl (4, j) else sbd (fact e1) fun c e2 => .inr (c ++ [12], e2)) else if v.1 = wAll then .inr ([13], e1) else rCmp n b sum j) = (.inr (c, e) : RS (List Int32)) := h
    obtain ⟨-, -, -, -, -, q5, q6⟩ := rWordJ_r q
    by_cases d1 : v.1 = wNot
    · rw [if_pos d1] at h
      by_cases d2 : dp = false
      · rw [if_pos d2] at h; cases h
      · rw [if_neg d2] at h
        obtain ⟨c5, e5, q9, q10⟩ := sbd_inr h
        have := hf _ _ _ q9
        have := sSk_ge n b e1
        cases q10
        omega
    · rw [if_neg d1] at h
      by_cases d2 : v.1 = wAll
      · rw [if_pos d2] at h
        cases h
        omega
      · rw [if_neg d2] at h
        exact rCmp_pg hs h
theorem rFact_pg (n : Nat) (b : Nat → Nat) (q : Nat) : ∀ r, rPg n b (rFact n b q r)
  | 0 => fun i c e h => rFactB_pg (rSum_pg n b q 0) (rBad_pg n b) (rBad_pg n b) h
  | r + 1 => fun i c e h => rFactB_pg (rSum_pg n b q (r + 1)) (rTestO_pg (rFact_pg n b q r)) (rFact_pg n b q r) h
theorem rTest_pg (n : Nat) (b : Nat → Nat) (q r : Nat) : rPg n b (rTest n b q r) := rTestO_pg (rFact_pg n b q r)
