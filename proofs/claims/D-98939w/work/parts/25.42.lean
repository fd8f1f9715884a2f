/-! PART 42: plain: the Model's writers -/
set_option maxRecDepth 100000
theorem nm_s {α β : Type} (x : α) (k : α → β) : nm x k = k x := rfl
theorem mA_w (z : MS) (k i : Nat) (v : Int32) (j : Nat) : mA (wA z k i v) k j = if j = i then v else mA z k j := by
  show va_up z.2.2.1 k (va_up (z.2.2.1 k) i v) k j = _
  by_cases h : j = i <;> simp [va_up, h, mA]
theorem mA_wne (z : MS) {k k' : Nat} (hk : k' ≠ k) (i : Nat) (v : Int32) : mA (wA z k i v) k' = mA z k' := by
  funext j
  show va_up z.2.2.1 k (va_up (z.2.2.1 k) i v) k' j = _
  simp [va_up, hk, mA]
def uY (w : SW) (v : Nat) : SW := (v, w.2)
def uM (w : SW) (p v : Nat) : SW := (w.1, va_up w.2.1 p v, w.2.2)
def uR (w : SW) (p v : Nat) : SW := (w.1, w.2.1, va_up w.2.2.1 p v, w.2.2.2)
def uW (w : SW) (p v : Nat) : SW := (w.1, w.2.1, w.2.2.1, va_up w.2.2.2.1 p v, w.2.2.2.2)
def uL (w : SW) (p v : Nat) : SW := (w.1, w.2.1, w.2.2.1, w.2.2.2.1, va_up w.2.2.2.2.1 p v, w.2.2.2.2.2)
def uF (w : SW) (p v : Nat) : SW := (w.1, w.2.1, w.2.2.1, w.2.2.2.1, w.2.2.2.2.1, va_up w.2.2.2.2.2.1 p v, w.2.2.2.2.2.2)
theorem up_at {f : Nat → Nat} {p v q : Nat} : va_up f p v q = if q = p then v else f q := by
  by_cases h : q = p <;> simp [va_up, h]
/-- a write into one person's row -/
theorem mSW_set {k : SK} {w w' : SW} {z : MS} {p c : Nat} {x : Int32} (h : mSW k w z) (hc : c < 5) (hy : wY w' = wY w)
    (hM : ∀ q, q < kP k → nI (wM w' q) - 1 = if q = p ∧ c = 0 then x else nI (wM w q) - 1) (hR : ∀ q, q < kP k → nI (wR w' q) = if q = p ∧ c = 1 then x else nI (wR w q)) (hW : ∀ q, q < kP k → nI (wW w' q) = if q = p ∧ c = 2 then x else nI (wW w q)) (hL : ∀ q, q < kP k → nI (wL' w' q) = if q = p ∧ c = 3 then x else nI (wL' w q)) (hF : ∀ q, q < kP k → nI (wF w' q) = if q = p ∧ c = 4 then x else nI (wF w q)) : mSW k w' (wA z 53 (1 + 5 * p + c) x) := by
  refine ⟨?_, fun q hq => ?_⟩
  · rw [mA_w, if_neg (by omega), h.1, hy]
  · obtain ⟨e1, e2, e3, e4, e5⟩ := h.2 q hq
    refine ⟨?_, ?_, ?_, ?_, ?_⟩
    · rw [mA_w, hM q hq, e1]
      by_cases g : q = p ∧ c = 0
      · rw [if_pos (by omega), if_pos g]
      · rw [if_neg (by omega), if_neg g]
    · rw [mA_w, hR q hq, e2]
      by_cases g : q = p ∧ c = 1
      · rw [if_pos (by omega), if_pos g]
      · rw [if_neg (by omega), if_neg g]
    · rw [mA_w, hW q hq, e3]
      by_cases g : q = p ∧ c = 2
      · rw [if_pos (by omega), if_pos g]
      · rw [if_neg (by omega), if_neg g]
    · rw [mA_w, hL q hq, e4]
      by_cases g : q = p ∧ c = 3
      · rw [if_pos (by omega), if_pos g]
      · rw [if_neg (by omega), if_neg g]
    · rw [mA_w, hF q hq, e5]
      by_cases g : q = p ∧ c = 4
      · rw [if_pos (by omega), if_pos g]
      · rw [if_neg (by omega), if_neg g]
theorem mSK_now {k : SK} {z z' : MS} (h : mSK k z) (e : ∀ a, a ∈ [39, 41, 42, 46, 47, 48, 49] → mA z' a = mA z a) : mSK k z' := by
  unfold mSK
  rw [e 39 (by decide), e 41 (by decide), e 42 (by decide), e 46 (by decide), e 47 (by decide), e 48 (by decide), e 49 (by decide)]
  exact h
/-- z' is z but for the people and scratch -/
def mSame (z z' : MS) : Prop := (∀ a, a ≠ 52 → a ≠ 55 → a ≠ 100 → mI z' a = mI z a) ∧ z'.2.1 = z.2.1 ∧ (∀ a, a ≠ 53 → a ≠ 56 → a ≠ 57 → mA z' a = mA z a) ∧ (∀ a, a ≠ 99 → mB z' a = mB z a) ∧ ∀ i, 41 ≤ i → mA z' 53 i = mA z 53 i
theorem mSame.rf (z : MS) : mSame z z := ⟨fun _ _ _ _ => rfl, rfl, fun _ _ _ _ => rfl, fun _ _ => rfl, fun _ _ => rfl⟩
theorem mSame.tr {a b c : MS} (h : mSame a b) (g : mSame b c) : mSame a c := ⟨fun x h1 h2 h4 => (g.1 x h1 h2 h4).trans (h.1 x h1 h2 h4), g.2.1.trans h.2.1, fun x h1 h2 h3 => (g.2.2.1 x h1 h2 h3).trans (h.2.2.1 x h1 h2 h3), fun x h1 => (g.2.2.2.1 x h1).trans (h.2.2.2.1 x h1), fun i hi => (g.2.2.2.2 i hi).trans (h.2.2.2.2 i hi)⟩
theorem mSame.sk {k : SK} {z z' : MS} (h : mSame z z') (g : mSK k z) : mSK k z' := mSK_now g (fun a ha => h.2.2.1 a (by rintro rfl; simp at ha) (by rintro rfl; simp at ha) (by rintro rfl; simp at ha))
/-- z' is z but for the people -/
def mNow (z z' : MS) : Prop := z'.1 = z.1 ∧ z'.2.1 = z.2.1 ∧ (∀ a, a ≠ 53 → mA z' a = mA z a) ∧ z'.2.2.2 = z.2.2.2 ∧ ∀ i, 41 ≤ i → mA z' 53 i = mA z 53 i
theorem mNow.rf (z : MS) : mNow z z := ⟨rfl, rfl, fun _ _ => rfl, rfl, fun _ _ => rfl⟩
theorem mNow.tr {a b c : MS} (h : mNow a b) (g : mNow b c) : mNow a c := ⟨g.1.trans h.1, g.2.1.trans h.2.1, fun x h1 => (g.2.2.1 x h1).trans (h.2.2.1 x h1), g.2.2.2.1.trans h.2.2.2.1, fun i hi => (g.2.2.2.2 i hi).trans (h.2.2.2.2 i hi)⟩
theorem mNow.same {z z' : MS} (h : mNow z z') : mSame z z' := ⟨fun a _ _ _ => by unfold mI; rw [h.1], h.2.1, fun a h1 _ _ => h.2.2.1 a h1, fun a _ => by unfold mB; rw [h.2.2.2.1], h.2.2.2.2⟩
theorem mNow.now (z : MS) {i : Nat} (hi : i < 41) (v : Int32) : mNow z (wA z 53 i v) := ⟨rfl, rfl, fun a h => mA_wne z h i v, rfl, fun j hj => by rw [mA_w, if_neg (by omega)]⟩
/-- one becomes right (1) or wrong (2) of a fact -/
def sMake (w : SW) (p f v : Nat) : SW := uW (uR w p (if v = 1 then wR w p &&& (255 - 2 ^ f) ||| 2 ^ f else wR w p &&& (255 - 2 ^ f))) p (if v = 2 then wW w p &&& (255 - 2 ^ f) ||| 2 ^ f else wW w p &&& (255 - 2 ^ f))
theorem m_makes_v {k : SK} {w : SW} {z : MS} (h : mOk k w z) {p f v : Nat} (hp : p < kP k) (hf : f < 8) (hv : v = 1 ∨ v = 2) : ∃ z', m_makes (nI p) (nI f) (nI v) z = some z' ∧ mSW k (sMake w p f v) z' ∧ mNow z z' := by
  have h8 := h.1.2.1
  have r8 := h.r8 hp
  have w8 := h.w8 hp
  obtain ⟨-, e2, e3, -, -⟩ := h.2.2.2.2 p hp
  unfold m_makes
  have i1 : inb (nI (1 + 5 * p + 1)) (mN 53) = true := inb_nI (by show _ < 132; omega) (by decide)
  have i2 : inb (nI (1 + 5 * p + 1 + 1)) (mN 53) = true := inb_nI (by show _ < 132; omega) (by decide)
  have o1 : nI (1 + 5 * p) + 1 = nI (1 + 5 * p + 1) := nI_1 _
  have o2 : nI (1 + 5 * p + 1) + 1 = nI (1 + 5 * p + 1 + 1) := nI_1 _
  have n1 : (nI (1 + 5 * p + 1)).toNatClampNeg = 1 + 5 * p + 1 := nI_c (by omega)
  have n2 : (nI (1 + 5 * p + 1 + 1)).toNatClampNeg = 1 + 5 * p + 1 + 1 := nI_c (by omega)
  simp only [ix0, o1, o2, ck_t i1, ck_t i2, nm_s, jn_s, n1, n2, e2, s_clr _ r8 f hf]
  generalize hz1 : wA z 53 (1 + 5 * p + 1) (nI (wR w p &&& (255 - 2 ^ f))) = z1
  have q1 : mSW k (uR w p (wR w p &&& (255 - 2 ^ f))) z1 := by
    rw [← hz1]
    refine mSW_set h.2.2.2 (by decide) rfl (fun q _ => by simp [uR, wM]) (fun q _ => ?_) (fun q _ => by simp [uR, wW]) (fun q _ => by simp [uR, wL']) (fun q _ => by simp [uR, wF])
    show nI (va_up w.2.2.1 p _ q) = _
    rw [up_at]
    by_cases g : q = p <;> simp [g, wR]
  have t1 : mNow z z1 := by rw [← hz1]; exact mNow.now z (by omega) _
  have g3 : mA z1 53 (1 + 5 * p + 1 + 1) = nI (wW w p) := (q1.2 p hp).2.2.1
  simp only [g3, s_clr _ w8 f hf]
  generalize hz2 : wA z1 53 (1 + 5 * p + 1 + 1) (nI (wW w p &&& (255 - 2 ^ f))) = z2
  have q2 : mSW k (uW (uR w p (wR w p &&& (255 - 2 ^ f))) p (wW w p &&& (255 - 2 ^ f))) z2 := by
    rw [← hz2]
    refine mSW_set (c := 2) q1 (by decide) rfl (fun q _ => by simp [uW, wM]) (fun q _ => by simp [uW, wR]) (fun q _ => ?_) (fun q _ => by simp [uW, wL']) (fun q _ => by simp [uW, wF])
    show nI (va_up w.2.2.2.1 p _ q) = _
    rw [up_at]
    by_cases g : q = p <;> simp [g, wW, uR]
  have t2 : mNow z z2 := t1.tr (by rw [← hz2]; exact mNow.now z1 (by omega) _)
  have g4 : mA z2 53 (1 + 5 * p + 1) = nI (wR w p &&& (255 - 2 ^ f)) := by
    have := (q2.2 p hp).2.1
    rw [this]
    simp [uW, uR, wR, va_up]
  have g5 : mA z2 53 (1 + 5 * p + 1 + 1) = nI (wW w p &&& (255 - 2 ^ f)) := by
    have := (q2.2 p hp).2.2.1
    rw [this]
    simp [uW, uR, wW, va_up]
  simp only [g4, g5, s_or _ (s_clrlt _ r8 f hf) f hf, s_or _ (s_clrlt _ w8 f hf) f hf]
  rcases hv with rfl | rfl
  · rw [if_pos (show nI 1 = 1 from rfl), if_neg (show ¬ nI 1 = 2 by decide)]
    refine ⟨_, rfl, ?_, t2.tr (mNow.now z2 (by omega) _)⟩
    refine mSW_set (c := 1) q2 (by decide) rfl (fun q _ => by simp [sMake, uW, uR, wM]) (fun q _ => ?_) (fun q _ => by simp [sMake, uW, uR, wW]) (fun q _ => by simp [sMake, uW, uR, wL']) (fun q _ => by simp [sMake, uW, uR, wF])
    by_cases g : q = p <;> simp [g, sMake, uW, uR, wR, va_up]
  · rw [if_neg (show ¬ nI 2 = 1 by decide), if_pos (show nI 2 = 2 from rfl)]
    refine ⟨_, rfl, ?_, t2.tr (mNow.now z2 (by omega) _)⟩
    refine mSW_set (c := 2) q2 (by decide) rfl (fun q _ => by simp [sMake, uW, uR, wM]) (fun q _ => by simp [sMake, uW, uR, wR]) (fun q _ => ?_) (fun q _ => by simp [sMake, uW, uR, wL']) (fun q _ => by simp [sMake, uW, uR, wF])
    by_cases g : q = p <;> simp [g, sMake, uW, uR, wW, va_up]
theorem f_or : ∀ x, x < 4 → ∀ b, b < 2 → nI x ||| nI (b + 1) = nI (x ||| 2 ^ b) ∧ x ||| 2 ^ b < 4 := by decide +kernel
/-- one gets a flag -/
def sBec (w : SW) (p b : Nat) : SW := uF w p (wF w p ||| 2 ^ b)
theorem m_becomes_v {k : SK} {w : SW} {z : MS} (h : mOk k w z) {p b : Nat} (hp : p < kP k) (hb : b < 2) : ∃ z', m_becomes (nI p) (nI (b + 1)) z = some z' ∧ mSW k (sBec w p b) z' ∧ mNow z z' := by
  have h8 := h.1.2.1
  have f4 := h.f4 hp
  have e5 := (h.2.2.2.2 p hp).2.2.2.2
  unfold m_becomes
  have i4 : inb (nI (1 + 5 * p + 4)) (mN 53) = true := inb_nI (by show _ < 132; omega) (by decide)
  have o4 : nI (1 + 5 * p) + 4 = nI (1 + 5 * p + 4) := nI_add _ 4
  have n4 : (nI (1 + 5 * p + 4)).toNatClampNeg = 1 + 5 * p + 4 := nI_c (by omega)
  simp only [ix0, o4, ck_t i4, nm_s, n4, e5, (f_or _ f4 b hb).1]
  refine ⟨_, rfl, ?_, mNow.now z (by omega) _⟩
  refine mSW_set (c := 4) h.2.2.2 (by decide) rfl (fun q _ => by simp [sBec, uF, wM]) (fun q _ => by simp [sBec, uF, wR]) (fun q _ => by simp [sBec, uF, wW]) (fun q _ => by simp [sBec, uF, wL']) (fun q _ => ?_)
  by_cases g : q = p <;> simp [g, sBec, uF, wF, va_up]
