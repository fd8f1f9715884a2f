/-! PART 53: plain: masters lead up; the Model's isTaughtBy, yearsTill, master -/
set_option maxRecDepth 100000
theorem wUp_0 (M : Nat → Nat) : ∀ i, wUp M i 0 = 0
  | 0 => rfl
  | i + 1 => rfl
theorem wUp_S (M : Nat → Nat) (i a : Nat) (h : a ≠ 0) : wUp M (i + 1) a = wUp M i (M (a - 1)) := by
  show (if a = 0 then 0 else _) = _
  rw [if_neg h]
theorem wUp_add (M : Nat → Nat) : ∀ i j a, wUp M (i + j) a = wUp M j (wUp M i a)
  | 0, j, a => by rw [Nat.zero_add]; rfl
  | i + 1, j, a => by
    rw [Nat.add_right_comm]
    by_cases c : a = 0
    · rw [c, wUp_0, wUp_0, wUp_0]
    · rw [wUp_S _ _ _ c, wUp_S _ _ _ c, wUp_add M i j]
/-- holes and doves -/
theorem holes : ∀ (n : Nat) (f : Nat → Nat), (∀ i, i ≤ n → f i < n) → ∃ i j, i < j ∧ j ≤ n ∧ f i = f j
  | 0, f, h => absurd (h 0 (Nat.le_refl _)) (Nat.not_lt_zero _)
  | n + 1, f, h => by
    by_cases c : ∃ i, i ≤ n ∧ f i = f (n + 1)
    · obtain ⟨i, h1, h2⟩ := c
      exact ⟨i, n + 1, by omega, Nat.le_refl _, h2⟩
    · have hne : ∀ i, i ≤ n → f i ≠ f (n + 1) := fun i hi q => c ⟨i, hi, q⟩
      have hl := h (n + 1) (Nat.le_refl _)
      obtain ⟨i, j, h1, h2, h3⟩ := holes n (fun i => if f i = n then f (n + 1) else f i) (fun i hi => by
        have a1 := h i (by omega)
        have a2 := hne i hi
        show (if f i = n then f (n + 1) else f i) < n
        by_cases e : f i = n
        · rw [if_pos e]; omega
        · rw [if_neg e]; omega)
      refine ⟨i, j, h1, by omega, ?_⟩
      have a2 := hne i (by omega)
      have a3 := hne j (by omega)
      have h3 : (if f i = n then f (n + 1) else f i) = (if f j = n then f (n + 1) else f j) := h3
      by_cases e1 : f i = n
      · by_cases e2 : f j = n
        · rw [e1, e2]
        · rw [if_pos e1, if_neg e2] at h3
          exact absurd h3.symm a3
      · by_cases e2 : f j = n
        · rw [if_neg e1, if_pos e2] at h3
          exact absurd h3 a2
        · rw [if_neg e1, if_neg e2] at h3
          exact h3
theorem wUp_in {M : Nat → Nat} {n : Nat} (hM : ∀ q, q < n → M q ≤ n) : ∀ i a, a ≤ n → wUp M i a ≤ n
  | 0, a, h => h
  | i + 1, a, h => by
    by_cases c : a = 0
    · rw [c, wUp_0]; omega
    · rw [wUp_S _ _ _ c]
      exact wUp_in hM i _ (hM _ (by omega))
/-- who is not on his own way up comes to its end -/
theorem wUp_end {M : Nat → Nat} {n : Nat} (hM : ∀ q, q < n → M q ≤ n) (hc : ∀ q, q < n → ∀ i, 0 < i → i ≤ n → wUp M i (q + 1) ≠ q + 1) {a : Nat} (ha : a ≤ n) : wUp M n a = 0 := by
  by_cases c : wUp M n a = 0
  · exact c
  · exfalso
    have hnz : ∀ i, i ≤ n → wUp M i a ≠ 0 := fun i hi q => c (by
      have := wUp_add M i (n - i) a
      rw [show i + (n - i) = n by omega, q, wUp_0] at this
      exact this)
    have hin : ∀ i, wUp M i a ≤ n := fun i => wUp_in hM i a ha
    obtain ⟨i, j, h1, h2, h3⟩ := holes n (fun i => wUp M i a - 1) (fun i hi => by
      have := hnz i hi
      have := hin i
      show wUp M i a - 1 < n
      omega)
    have h3 : wUp M i a - 1 = wUp M j a - 1 := h3
    have n1 := hnz i (by omega)
    have n2 := hnz j h2
    have l1 := hin i
    have := hc (wUp M i a - 1) (by omega) (j - i) (by omega) (by omega)
    rw [show wUp M i a - 1 + 1 = wUp M i a by omega, ← wUp_add, show i + (j - i) = j by omega] at this
    omega
theorem wUp_ge {M : Nat → Nat} {n i a : Nat} (h : wUp M n a = 0) (hi : n ≤ i) : wUp M i a = 0 := by
  have := wUp_add M n (i - n) a
  rw [show n + (i - n) = i by omega, h, wUp_0] at this
  exact this
theorem wOk.up8 {k : SK} {w : SW} (hk : kOk k) (h : wOk k w) {a : Nat} (ha : a ≤ kP k) : wUp (wM w) 8 a = 0 := wUp_ge (wUp_end (fun q hq => (h.2.2 q hq).1) (fun q hq i hi _ => h.1 q hq i hi) ha) hk.2.1
/-- whether p is on the way up from a -/
def sBy (M : Nat → Nat) : Nat → Nat → Nat → Bool
  | 0, a, p => decide (a = p + 1)
  | n + 1, a, p => if a = 0 then false else if a = p + 1 then true else sBy M n (M (a - 1)) p
theorem sBy_no {M : Nat → Nat} {p : Nat} : ∀ {n a : Nat}, wUp M n a = 0 → sBy M n a p = false → ∀ i, wUp M i a ≠ p + 1
  | 0, a, h, _, i => by
    have h : a = 0 := h
    rw [h, wUp_0]
    omega
  | n + 1, a, h, hb, i => by
    by_cases c : a = 0
    · rw [c, wUp_0]; omega
    · have hb : (if a = 0 then false else if a = p + 1 then true else sBy M n (M (a - 1)) p) = false := hb
      rw [if_neg c] at hb
      by_cases c2 : a = p + 1
      · rw [if_pos c2] at hb
        cases hb
      · rw [if_neg c2] at hb
        rw [wUp_S _ _ _ c] at h
        cases i with
        | zero => exact c2
        | succ i =>
          rw [wUp_S _ _ _ c]
          exact sBy_no h hb i
theorem m_isTaughtBy_v {k : SK} {w : SW} {z : MS} (h : mOk k w z) {a p : Nat} (ha : a ≤ kP k) (hp : p < kP k) : m_isTaughtBy (nI a - 1) (nI p) z = some (sBy (wM w) 8 a p, z) := by
  have h8 := h.1.2.1
  have fin : Ok (m_isTaughtBy (nI a - 1) (nI p) z) (fun r => r = (sBy (wM w) 8 a p, z)) := by
    unfold m_isTaughtBy
    rw [jn_s]
    have ep : nI p = nI (p + 1) - 1 := (nI_pred p).symm
    refine fx_ok (F := m_isTaughtBy_L2 (nI p) _) (z := fun _ _ => none) (fun s (b : Nat × Nat) => s (nI b.2 - 1) z) (fun b => b.1) (fun b => b.2 ≤ kP k ∧ wUp (wM w) b.1 b.2 = 0 ∧ sBy (wM w) b.1 b.2 p = sBy (wM w) 8 a p) _ ?_ FU (8, a) ⟨ha, h.2.1.up8 h.1 ha, rfl⟩ (FU_gt (by show 8 < 1000000; decide))
    rintro s ⟨n, b⟩ ⟨hb, hu, hs⟩ go
    have hb : b ≤ kP k := hb
    have hu : wUp (wM w) n b = 0 := hu
    have hs : sBy (wM w) n b p = sBy (wM w) 8 a p := hs
    show Ok (m_isTaughtBy_L2 (nI p) _ s (nI b - 1) z) _
    unfold m_isTaughtBy_L2
    by_cases c0 : b = 0
    · rw [c0, if_pos (by decide)]
      have : sBy (wM w) 8 a p = false := by
        rw [← hs, c0]
        cases n with
        | zero => exact decide_eq_false (by omega)
        | succ n => rfl
      rw [this]
      show Ok (if nI 0 - 1 = nI p then some (true, z) else some (false, z)) _
      rw [if_neg (fun q => by rw [ep] at q; have := (m1_inj (by decide) (by omega)).mp q; omega)]
      exact Ok.of rfl
    · rw [if_neg (m1_ne c0 (by omega))]
      by_cases c1 : b = p + 1
      · rw [if_pos (by rw [c1, ep])]
        have : sBy (wM w) 8 a p = true := by
          rw [← hs, c1]
          cases n with
          | zero => exact decide_eq_true rfl
          | succ n =>
            show (if p + 1 = 0 then false else if p + 1 = p + 1 then true else _) = true
            rw [if_neg (by omega), if_pos rfl]
        rw [this]
        show Ok (if nI b - 1 = nI p then some (true, z) else some (false, z)) _
        rw [if_pos (by rw [c1, ep])]
        exact Ok.of rfl
      · rw [if_neg (fun q => c1 ((m1_inj (by omega) (by omega)).mp (by rw [q, ep]))), nI_m1 (by omega), m_masterOf_v h (by omega), bnd_s]
        cases n with
        | zero => exact absurd hu c0
        | succ n =>
          have hs : (if b = 0 then false else if b = p + 1 then true else sBy (wM w) n (wM w (b - 1)) p) = _ := hs
          rw [if_neg c0, if_neg c1] at hs
          rw [wUp_S _ _ _ c0] at hu
          exact go (n, wM w (b - 1)) ⟨(h.2.1.2.2 (b - 1) (by omega)).1, hu, hs⟩ (Nat.lt_succ_self n)
  obtain ⟨r, e, rfl⟩ := fin
  exact e
theorem wM_u (w : SW) (p v q : Nat) : wM (uM w p v) q = if q = p then v else wM w q := by
  by_cases g : q = p <;> simp [g, uM, wM, va_up]
/-- a new master, if one is not on the way up from him -/
theorem up_new {M M' : Nat → Nat} {n p m : Nat} (hM : ∀ q, q < n → M q ≤ n) (hM' : ∀ q, M' q = if q = p then m else M q) (hc : ∀ q, q < n → ∀ i, 0 < i → wUp M i (q + 1) ≠ q + 1) (hm : ∀ i, wUp M i m ≠ p + 1) : ∀ q, q < n → ∀ i, 0 < i → wUp M' i (q + 1) ≠ q + 1 := by
  -- as long as p is not met, the ways are the same
  have way : ∀ i a, (∀ j, j < i → wUp M j a ≠ p + 1) → wUp M' i a = wUp M i a := by
    intro i
    induction i with
    | zero => intro a _; rfl
    | succ i ih =>
      intro a hj
      by_cases c : a = 0
      · rw [c, wUp_0, wUp_0]
      · rw [wUp_S _ _ _ c, wUp_S _ _ _ c, hM', if_neg]
        · refine ih _ (fun j hj2 => ?_)
          have := hj (j + 1) (by omega)
          rwa [wUp_S _ _ _ c] at this
        · intro q
          exact hj 0 (by omega) (by show a = p + 1; omega)
  have wayM : ∀ i, wUp M' i m = wUp M i m := fun i => way i m (fun j _ => hm j)
  -- p is not on its own way
  have own : ∀ i, 0 < i → wUp M' i (p + 1) ≠ p + 1 := by
    intro i hi
    obtain ⟨i, rfl⟩ : ∃ j, i = j + 1 := ⟨i - 1, by omega⟩
    rw [wUp_S _ _ _ (by omega), show p + 1 - 1 = p by omega, hM', if_pos rfl, wayM]
    exact hm i
  intro q hq i hi he
  by_cases c : ∃ j, j < i ∧ wUp M j (q + 1) = p + 1
  · -- the first meeting
    have : ∃ j, j < i ∧ wUp M j (q + 1) = p + 1 ∧ ∀ l, l < j → wUp M l (q + 1) ≠ p + 1 := by
      obtain ⟨j, h1, h2⟩ := c
      induction j using Nat.strongRecOn with
      | ind j ih =>
        by_cases d : ∃ l, l < j ∧ wUp M l (q + 1) = p + 1
        · obtain ⟨l, h3, h4⟩ := d
          exact ih l h3 (by omega) h4
        · exact ⟨j, h1, h2, fun l hl e => d ⟨l, hl, e⟩⟩
    obtain ⟨j, h1, h2, h3⟩ := this
    have e1 : wUp M' j (q + 1) = p + 1 := by rw [way j (q + 1) h3, h2]
    -- from p on back to q, then to p again
    have e2 : wUp M' (i - j) (p + 1) = q + 1 := by
      rw [← e1, ← wUp_add, show j + (i - j) = i by omega, he]
    have e3 : wUp M' (i - j + j) (p + 1) = p + 1 := by rw [wUp_add, e2, e1]
    exact own _ (by omega) e3
  · have := way i (q + 1) (fun j hj e => c ⟨j, hj, e⟩)
    rw [this] at he
    exact hc q hq i hi he
theorem wOk.master {k : SK} {w : SW} (hk : kOk k) (h : wOk k w) {p m : Nat} (hm : m ≤ kP k) (hb : m = 0 ∨ sBy (wM w) 8 m p = false) : wOk k (uM w p m) := by
  refine ⟨up_new (M := wM w) (m := m) (fun q hq => (h.2.2 q hq).1) (fun q => wM_u w p m q) h.1 (fun i => ?_), h.2.1, fun q hq => ?_⟩
  · rcases hb with rfl | hb
    · rw [wUp_0]; omega
    · exact sBy_no (h.up8 hk hm) hb i
  · obtain ⟨b1, b2⟩ := h.2.2 q hq
    refine ⟨?_, b2⟩
    rw [wM_u]
    by_cases c : q = p
    · rw [if_pos c]; exact hm
    · rw [if_neg c]; exact b1
