/-! PART 40: plain: loops, numbers, sets below 256 -/
set_option maxRecDepth 100000
/-- n steps, counted from k on -/
def itN {σ : Type} (st : Nat → σ → σ) : Nat → Nat → σ → σ
  | 0, _, x => x
  | n + 1, k, x => itN st n (k + 1) (st k x)
theorem itN_last {σ : Type} (st : Nat → σ → σ) : ∀ (n k : Nat) (x : σ), itN st (n + 1) k x = st (k + n) (itN st n k x)
  | 0, k, x => rfl
  | n + 1, k, x => by
    show itN st (n + 1) (k + 1) (st k x) = _
    rw [itN_last st n (k + 1) (st k x)]
    show st (k + 1 + n) _ = st (k + (n + 1)) _
    rw [show k + 1 + n = k + (n + 1) by omega]
    rfl
theorem itN_inv {σ : Type} {st : Nat → σ → σ} {Inv : Nat → σ → Prop} {m : Nat} (h : ∀ k x, k < m → Inv k x → Inv (k + 1) (st k x)) : ∀ (n k : Nat) (x : σ), k + n ≤ m → Inv k x → Inv (k + n) (itN st n k x)
  | 0, k, x, _, hi => hi
  | n + 1, k, x, hm, hi => by
    have h1 := itN_inv h n (k + 1) (st k x) (by omega) (h k x (by omega) hi)
    rw [show k + 1 + n = k + (n + 1) by omega] at h1
    exact h1
/-- a loop, as a whole: 'call' hands an abstract a over to the loop's function -/
theorem fx_indG {φ β α : Type} {F : φ → φ} {z : φ} (call : φ → α → β) (μ : α → Nat) (Inv : α → Prop) (r : α → β) (step : ∀ (s : φ) (a : α), Inv a → (∀ b, Inv b → μ b < μ a → call s b = r b) → call (F s) a = r a) : ∀ (m : Nat) (a : α), Inv a → μ a < m → call (fx F z m) a = r a
  | 0, a, _, h => absurd h (Nat.not_lt_zero _)
  | m + 1, a, hi, h => by
    rw [fx_s]
    exact step _ a hi (fun b hb hm => fx_indG call μ Inv r step m b hb (by omega))
/-- a count up: the step at k < n goes on with k + 1, at n it ends -/
theorem fx_gen {φ β α : Type} {F : φ → φ} {z : φ} (call : φ → Nat → α → β) (n : Nat) (st : Nat → α → α) (Inv : Nat → α → Prop) (e : α → β)
    (h1 : ∀ (s : φ) (k : Nat) (a : α), k < n → Inv k a → call (F s) k a = call s (k + 1) (st k a)) (h2 : ∀ (k : Nat) (a : α), k < n → Inv k a → Inv (k + 1) (st k a)) (h3 : ∀ (s : φ) (a : α), Inv n a → call (F s) n a = e a) :
    ∀ (m k : Nat) (a : α), k ≤ n → Inv k a → n - k < m → call (fx F z m) k a = e (itN st (n - k) k a)
  | 0, k, a, _, _, h => absurd h (Nat.not_lt_zero _)
  | m + 1, k, a, hk, hi, h => by
    rw [fx_s]
    by_cases c : k < n
    · rw [h1 _ k a c hi, fx_gen call n st Inv e h1 h2 h3 m (k + 1) (st k a) c (h2 k a c hi) (by omega)]
      have e1 : n - k = (n - (k + 1)) + 1 := by omega
      rw [e1]
      rfl
    · have e1 : k = n := by omega
      subst e1
      rw [h3 _ a hi, Nat.sub_self]
      rfl
theorem FU_gt {n : Nat} (h : n < 1000000) : n < FU := Nat.lt_of_lt_of_le h FU_le
theorem inb_nI {i n : Nat} (h : i < n) (hn : n < 2 ^ 31) : inb (nI i) n = true := by
  unfold inb
  exact decide_eq_true (nI_in h hn)
theorem nI_c {i : Nat} (h : i < 2 ^ 31) : (nI i).toNatClampNeg = i := nI_clamp h
/-! sets below 256 -/
theorem s_has : ∀ s, s < 256 → ∀ k, k < 8 → (((nI s >>> (nI k &&& 31)) &&& 1) = 1 ↔ s.testBit k = true) := by decide +kernel
theorem s_or : ∀ s, s < 256 → ∀ k, k < 8 → nI s ||| (1 <<< (nI k &&& 31)) = nI (s ||| 2 ^ k) := by decide +kernel
theorem s_bit : ∀ k, k < 8 → (1 : Int32) <<< (nI k &&& 31) = nI (2 ^ k) := by decide +kernel
theorem s_clr : ∀ s, s < 256 → ∀ k, k < 8 → nI s &&& ((1 <<< (nI k &&& 31)) ^^^ (-1)) = nI (s &&& (255 - 2 ^ k)) := by decide +kernel
theorem s_orlt : ∀ s, s < 256 → ∀ k, k < 8 → s ||| 2 ^ k < 256 := by decide +kernel
theorem s_clrlt : ∀ s, s < 256 → ∀ k, k < 8 → s &&& (255 - 2 ^ k) < 256 := by decide +kernel
theorem s_ort : ∀ s, s < 256 → ∀ k, k < 8 → ∀ j, j < 8 → (s ||| 2 ^ k).testBit j = (s.testBit j || decide (k = j)) := by decide +kernel
theorem s_clrt : ∀ s, s < 256 → ∀ k, k < 8 → ∀ j, j < 8 → (s &&& (255 - 2 ^ k)).testBit j = (s.testBit j && !decide (k = j)) := by decide +kernel
/-- how many are in a set -/
def pop (s : Nat) : Nat := ((List.range 8).filter fun k => s.testBit k).length
