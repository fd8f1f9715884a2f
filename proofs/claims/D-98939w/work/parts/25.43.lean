/-! PART 43: plain: the Model's pile -/
set_option maxRecDepth 100000
theorem mB_w (z : MS) (k i : Nat) (v : Int64) (j : Nat) : mB (wB z k i v) k j = if j = i then v else mB z k j := by
  show va_up z.2.2.2 k (va_up (z.2.2.2 k) i v) k j = _
  by_cases h : j = i <;> simp [va_up, h, mB]
theorem mB_wne (z : MS) {k k' : Nat} (hk : k' ≠ k) (i : Nat) (v : Int64) : mB (wB z k i v) k' = mB z k' := by
  funext j
  show va_up z.2.2.2 k (va_up (z.2.2.2 k) i v) k' j = _
  simp [va_up, hk, mB]
theorem mI_w (z : MS) (k : Nat) (v : Int32) (j : Nat) : mI (wI z k v) j = if j = k then v else mI z j := by
  show va_up z.1 k v j = _
  by_cases h : j = k <;> simp [va_up, h, mI]
/-- only the pile, who is asked and how are changed -/
def mEv (z z' : MS) : Prop := (∀ a, a ≠ 52 → a ≠ 55 → a ≠ 100 → mI z' a = mI z a) ∧ z'.2.1 = z.2.1 ∧ z'.2.2.1 = z.2.2.1 ∧ ∀ a, a ≠ 99 → mB z' a = mB z a
theorem mEv.rf (z : MS) : mEv z z := ⟨fun _ _ _ _ => rfl, rfl, rfl, fun _ _ => rfl⟩
theorem mEv.tr {a b c : MS} (h : mEv a b) (g : mEv b c) : mEv a c := ⟨fun x h1 h2 h3 => (g.1 x h1 h2 h3).trans (h.1 x h1 h2 h3), g.2.1.trans h.2.1, g.2.2.1.trans h.2.2.1, fun x h1 => (g.2.2.2 x h1).trans (h.2.2.2 x h1)⟩
theorem mEv.arr {z z' : MS} (h : mEv z z') (a : Nat) : mA z' a = mA z a := by unfold mA; rw [h.2.2.1]
theorem mEv.same {z z' : MS} (h : mEv z z') : mSame z z' := ⟨fun a h1 h2 h4 => h.1 a h1 h2 h4, h.2.1, fun a _ _ _ => h.arr a, h.2.2.2, fun i _ => by rw [h.arr]⟩
theorem mEv.sw {k : SK} {w : SW} {z z' : MS} (h : mEv z z') (g : mSW k w z) : mSW k w z' := by unfold mSW; rw [h.arr]; exact g
theorem mEv.ok {k : SK} {w : SW} {z z' : MS} (h : mEv z z') (g : mOk k w z) : mOk k w z' := ⟨g.1, g.2.1, h.same.sk g.2.2.1, h.sw g.2.2.2⟩
theorem mEv.int (z : MS) {a : Nat} (ha : a = 52 ∨ a = 55 ∨ a = 100) (v : Int32) : mEv z (wI z a v) := ⟨fun b h1 h2 h4 => by rw [mI_w, if_neg (by omega)], rfl, rfl, fun _ _ => rfl⟩
/-- only the pile is changed -/
def mPl (z z' : MS) : Prop := (∀ a, a ≠ 100 → mI z' a = mI z a) ∧ z'.2.1 = z.2.1 ∧ z'.2.2.1 = z.2.2.1 ∧ ∀ a, a ≠ 99 → mB z' a = mB z a
theorem mPl.tr {a b c : MS} (h : mPl a b) (g : mPl b c) : mPl a c := ⟨fun x h1 => (g.1 x h1).trans (h.1 x h1), g.2.1.trans h.2.1, g.2.2.1.trans h.2.2.1, fun x h1 => (g.2.2.2 x h1).trans (h.2.2.2 x h1)⟩
theorem mPl.ev {z z' : MS} (h : mPl z z') : mEv z z' := ⟨fun a _ _ h3 => h.1 a h3, h.2⟩
theorem mPl.pile (z : MS) (i : Nat) (v : Int64) : mPl z (wB z 99 i v) := ⟨fun _ _ => rfl, rfl, rfl, fun a h => mB_wne z h i v⟩
theorem mPl.int (z : MS) (v : Int32) : mPl z (wI z 100 v) := ⟨fun b h1 => by rw [mI_w, if_neg h1], rfl, rfl, fun _ _ => rfl⟩
/-- the pile holds st, top first -/
def mStk (st : List Int64) (z : MS) : Prop := mI z 100 = nI st.length ∧ ∀ i, i < st.length → mB z 99 i = st.getD (st.length - 1 - i) 0
theorem m_qPuts_v {st : List Int64} {z : MS} (h : mStk st z) (hl : st.length < 1650) (v : Int64) : ∃ z', m_qPuts v z = some z' ∧ mStk (v :: st) z' ∧ mPl z z' := by
  have i1 : inb (nI st.length) (mN 99) = true := inb_nI (by show _ < 1700; omega) (by decide)
  unfold m_qPuts
  simp only [h.1, ck_t i1, nm_s, nI_c (show st.length < 2 ^ 31 by omega)]
  refine ⟨_, rfl, ⟨?_, fun i hi => ?_⟩, (mPl.pile z _ v).tr (mPl.int _ _)⟩
  · rw [mI_w, if_pos rfl]
    show mI z 100 + 1 = nI (st.length + 1)
    rw [h.1, nI_1]
  · show mB (wB z 99 st.length v) 99 i = _
    rw [mB_w]
    have hi : i < st.length + 1 := hi
    by_cases c : i = st.length
    · rw [if_pos c, c]
      simp
    · rw [if_neg c, h.2 i (by omega)]
      have e : (v :: st).length - 1 - i = (st.length - 1 - i) + 1 := by
        show st.length + 1 - 1 - i = _
        omega
      rw [e]
      rfl
theorem bnv_s {σ β : Type} (x : σ) (k : σ → Option β) : bnv (some x) k = k x := rfl
def sClip (v : Int64) : Int64 := if v ≤ 1000000 then (if -1000000 ≤ v then v else -1000000) else 1000000
theorem m_qClip_v (v : Int64) (z : MS) : m_qClip v z = some (sClip v, z) := by
  unfold m_qClip sClip
  by_cases c1 : v ≤ 1000000
  · by_cases c2 : -1000000 ≤ v <;> simp [jn_s, c1, c2]
  · simp [jn_s, c1]
def sFloor (a b : Int64) : Int64 := if b = 0 then 0 else if a - a / b * b = 0 then a / b else if (decide (0 ≤ a)) = (decide (0 ≤ b)) then a / b else a / b - 1
theorem m_qFloor_v (a b : Int64) (z : MS) : m_qFloor a b z = some (sFloor a b, z) := by
  unfold m_qFloor sFloor
  by_cases c0 : b = 0
  · rw [if_pos c0, if_pos c0]
  · rw [if_neg c0, if_neg c0]
    have hb : (!decide (b = 0)) = true := by simp [c0]
    simp only [ck_t hb, jn_s]
    by_cases c1 : a - a / b * b = 0
    · rw [if_pos c1, if_pos c1]
    · rw [if_neg c1, if_neg c1]
      by_cases c2 : 0 ≤ a <;> by_cases c3 : 0 ≤ b <;> simp [c2, c3, bI]
def sJoin (c : Int32) (a b : Int64) : Int64 := if c = 1 then sClip (a + b) else if c = 2 then sClip (a - b) else if c = 3 then sClip (a * b) else if c = 4 then sFloor a b else if c = 5 then (if b ≤ a then b else a) else if c = 6 then (if a ≤ b then b else a) else if c = 7 then (if b ≤ a then 0 else 1) else if c = 8 then (if a ≤ b then 0 else 1) else if c = 9 then (if a = b then 1 else 0) else if c = 10 then a * b else (if a + b ≤ 0 then 0 else 1)
theorem mStk.pop2 {a b : Int64} {st : List Int64} {z : MS} (h : mStk (b :: a :: st) z) (hl : st.length < 1600) : mI z 100 - 1 = nI (st.length + 1) ∧ mI z 100 - 2 = nI st.length ∧ mB z 99 (st.length + 1) = b ∧ mB z 99 st.length = a ∧ mStk st (wI z 100 (nI st.length)) := by
  have e : mI z 100 = nI (st.length + 2) := h.1
  refine ⟨?_, ?_, ?_, ?_, ?_, fun i hi => ?_⟩
  · rw [e]
    exact nI_pred (st.length + 1)
  · rw [e, ← nI_add]
    exact Int32.add_sub_cancel _ _
  · have := h.2 (st.length + 1) (by show _ < st.length + 2; omega)
    rw [this]
    show (b :: a :: st).getD (st.length + 2 - 1 - (st.length + 1)) 0 = b
    rw [show st.length + 2 - 1 - (st.length + 1) = 0 by omega]
    rfl
  · have := h.2 st.length (by show _ < st.length + 2; omega)
    rw [this]
    show (b :: a :: st).getD (st.length + 2 - 1 - st.length) 0 = a
    rw [show st.length + 2 - 1 - st.length = 1 by omega]
    rfl
  · rw [mI_w, if_pos rfl]
  · show mB z 99 i = _
    rw [h.2 i (by show _ < st.length + 2; omega)]
    show (b :: a :: st).getD (st.length + 2 - 1 - i) 0 = _
    rw [show st.length + 2 - 1 - i = (st.length - 1 - i) + 2 by omega]
    rfl
theorem m_qJoins_v {a b : Int64} {st : List Int64} {z : MS} (h : mStk (b :: a :: st) z) (hl : st.length < 1600) (c : Int32) : ∃ z', m_qJoins c z = some z' ∧ mStk (sJoin c a b :: st) z' ∧ mPl z z' := by
  obtain ⟨e1, e2, e3, e4, e5⟩ := h.pop2 hl
  have i1 : inb (nI (st.length + 1)) (mN 99) = true := inb_nI (by show _ < 1700; omega) (by decide)
  have i2 : inb (nI st.length) (mN 99) = true := inb_nI (by show _ < 1700; omega) (by decide)
  have n1 : (nI (st.length + 1)).toNatClampNeg = st.length + 1 := nI_c (by omega)
  have n2 : (nI st.length).toNatClampNeg = st.length := nI_c (by omega)
  have hput : ∀ v, ∃ z', m_qPuts v (wI z 100 (nI st.length)) = some z' ∧ mStk (v :: st) z' ∧ mPl z z' := fun v => by
    obtain ⟨z', g1, g2, g3⟩ := m_qPuts_v e5 (by omega) v
    exact ⟨z', g1, g2, (mPl.int z _).tr g3⟩
  obtain ⟨z', g1, g2, g3⟩ := hput (sJoin c a b)
  refine ⟨z', ?_, g2, g3⟩
  unfold m_qJoins
  simp only [e1, e2, ck_t i1, ck_t i2, nm_s, jn_s, n1, n2, e3, e4, m_qClip_v, m_qFloor_v, bnd_s]
  unfold sJoin at g1
  by_cases c1 : c = 1
  · rw [if_pos c1] at g1 ⊢
    rw [g1]; rfl
  rw [if_neg c1] at g1 ⊢
  by_cases c2 : c = 2
  · rw [if_pos c2] at g1 ⊢
    rw [g1]; rfl
  rw [if_neg c2] at g1 ⊢
  by_cases c3 : c = 3
  · rw [if_pos c3] at g1 ⊢
    rw [g1]; rfl
  rw [if_neg c3] at g1 ⊢
  by_cases c4 : c = 4
  · rw [if_pos c4] at g1 ⊢
    rw [g1]; rfl
  rw [if_neg c4] at g1 ⊢
  by_cases c5 : c = 5
  · rw [if_pos c5] at g1 ⊢
    by_cases d : b ≤ a
    · rw [if_pos d] at g1 ⊢; rw [g1]; rfl
    · rw [if_neg d] at g1 ⊢; rw [g1]; rfl
  rw [if_neg c5] at g1 ⊢
  by_cases c6 : c = 6
  · rw [if_pos c6] at g1 ⊢
    by_cases d : a ≤ b
    · rw [if_pos d] at g1 ⊢; rw [g1]; rfl
    · rw [if_neg d] at g1 ⊢; rw [g1]; rfl
  rw [if_neg c6] at g1 ⊢
  by_cases c7 : c = 7
  · rw [if_pos c7] at g1 ⊢
    by_cases d : b ≤ a
    · rw [if_pos d] at g1 ⊢; rw [g1]; rfl
    · rw [if_neg d] at g1 ⊢; rw [g1]; rfl
  rw [if_neg c7] at g1 ⊢
  by_cases c8 : c = 8
  · rw [if_pos c8] at g1 ⊢
    by_cases d : a ≤ b
    · rw [if_pos d] at g1 ⊢; rw [g1]; rfl
    · rw [if_neg d] at g1 ⊢; rw [g1]; rfl
  rw [if_neg c8] at g1 ⊢
  by_cases c9 : c = 9
  · rw [if_pos c9] at g1 ⊢
    by_cases d : a = b
    · rw [if_pos d] at g1 ⊢; rw [g1]; rfl
    · rw [if_neg d] at g1 ⊢; rw [g1]; rfl
  rw [if_neg c9] at g1 ⊢
  by_cases c10 : c = 10
  · rw [if_pos c10] at g1 ⊢
    rw [g1]; rfl
  rw [if_neg c10] at g1 ⊢
  by_cases d : a + b ≤ 0
  · rw [if_pos d] at g1 ⊢; rw [g1]; rfl
  · rw [if_neg d] at g1 ⊢; rw [g1]; rfl
