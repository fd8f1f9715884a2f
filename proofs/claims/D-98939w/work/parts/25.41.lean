/-! PART 41: plain: the Model's state as a school and what is; its readers -/
set_option maxRecDepth 100000
theorem nI_mul (a b : Nat) : nI a * nI b = nI (a * b) := (Int32.ofNat_mul a b).symm
theorem ix0 (p : Nat) : (1 : Int32) + (5 * nI p) = nI (1 + 5 * p) := by
  rw [show (5 : Int32) = nI 5 from rfl, nI_mul, show (1 : Int32) = nI 1 from rfl, nI_add]
theorem ixk (p k : Nat) : nI p + nI k = nI (p + k) := nI_add p k
/-- what is: the year; of people the master (0: none; m + 1), rights, wrongs, tries left, flags; the rows kept -/
abbrev SW : Type := Nat × (Nat → Nat) × (Nat → Nat) × (Nat → Nat) × (Nat → Nat) × (Nat → Nat) × List (Nat × Nat × Nat)
def wY (w : SW) : Nat := w.1
def wM (w : SW) (p : Nat) : Nat := w.2.1 p
def wR (w : SW) (p : Nat) : Nat := w.2.2.1 p
def wW (w : SW) (p : Nat) : Nat := w.2.2.2.1 p
def wL' (w : SW) (p : Nat) : Nat := w.2.2.2.2.1 p
def wF (w : SW) (p : Nat) : Nat := w.2.2.2.2.2.1 p
def wK (w : SW) : List (Nat × Nat × Nat) := w.2.2.2.2.2.2
/-- a school: facts, people; worths, calms; pass, tries, ill; the tests (takes, garble, sits) as codes -/
abbrev SK : Type := (Nat × Nat) × (Nat → Nat) × (Nat → Nat) × (Nat → Nat) × (Nat → Option (List Int32))
def kF (k : SK) : Nat := k.1.1
def kP (k : SK) : Nat := k.1.2
def kWo (k : SK) (f : Nat) : Nat := k.2.1 f
def kCa (k : SK) (p : Nat) : Nat := k.2.2.1 p
def kSe (k : SK) (i : Nat) : Nat := k.2.2.2.1 i
def kTe (k : SK) (i : Nat) : Option (List Int32) := k.2.2.2.2 i
/-- i steps up, masters told as m + 1 (0 none) -/
def wUp (M : Nat → Nat) : Nat → Nat → Nat
  | 0, a => a
  | i + 1, a => if a = 0 then 0 else wUp M i (M (a - 1))
/-- nobody is taught by himself; bounds -/
def wOk (k : SK) (w : SW) : Prop := (∀ q, q < kP k → ∀ i, 0 < i → wUp (wM w) i (q + 1) ≠ q + 1) ∧ wY w ≤ 2000 ∧ ∀ p, p < kP k → wM w p ≤ kP k ∧ wR w p < 2 ^ kF k ∧ wW w p < 2 ^ kF k ∧ (∀ f, f < 8 → ¬ ((wR w p).testBit f = true ∧ (wW w p).testBit f = true)) ∧ wL' w p ≤ 9 ∧ wF w p < 4
/-- how deep the pile is behind codes (none: badly made); al: the parts that may be asked -/
def cDep (al : Nat → Bool) : List Int32 → Nat → Option Nat
  | [], d => some d
  | c :: cs, d =>
    if c < 1000 then
      if c < 60 then
        if c < 40 then
          if c = 13 then cDep al cs (d + 1)
          else if c = 12 then (if 1 ≤ d then cDep al cs d else none)
          else if 1 ≤ c ∧ c ≤ 11 then (if 2 ≤ d then cDep al cs (d - 1) else none) else none
        else if al (c - 40).toNatClampNeg = true then cDep al cs (d + 1) else none
      else if al 12 = true ∧ c = 60 then (if 1 ≤ d then cDep al cs d else none) else none
    else if c ≤ 10999 then cDep al cs (d + 1) else none
/-- what may be asked of: 0 in takes and garble, 1 in sits, 2 in a question -/
def alOf (q j : Nat) : Bool := if q = 2 then decide (j < 5 ∨ (7 ≤ j ∧ j ≤ 12)) else if q = 1 then decide (j < 4 ∨ j = 7 ∨ j = 8) else decide (j < 7)
def kdOf (i : Nat) : Nat := if i = 2 then 1 else 0
def kOk (k : SK) : Prop := kF k ≤ 8 ∧ kP k ≤ 8 ∧ (∀ f, f < kF k → 1 ≤ kWo k f ∧ kWo k f ≤ 9) ∧ (∀ p, p < kP k → kCa k p ≤ 99) ∧ (kSe k 0 ≤ 99 ∧ kSe k 1 ≤ 9 ∧ kSe k 2 ≤ 100) ∧ ∀ i c, i < 3 → kTe k i = some c → cDep (alOf (kdOf i)) c 0 = some 1
/-- the Model holds the school k -/
def mSK (k : SK) (z : MS) : Prop := mA z 39 2 = nI (kF k) ∧ mA z 39 3 = nI (kP k) ∧ (∀ f, f < kF k → mA z 41 (8 + f) = nI (kWo k f)) ∧ (∀ p, p < kP k → mA z 42 (8 + p) = nI (kCa k p)) ∧ (∀ i, i < 3 → mA z 46 (3 + i) = nI (kSe k i)) ∧
  (∀ i, i < 3 → (kTe k i = none ∧ mA z 47 (3 + i) = -1) ∨ ∃ (c : List Int32) (b : Nat), kTe k i = some c ∧ b + c.length ≤ 1600 ∧ mA z 47 (3 + i) = nI b ∧ mA z 48 (3 + i) = nI (b + c.length) ∧ ∀ j, j < c.length → mA z 49 (1600 + b + j) = c.getD j 0)
/-- .. and what is -/
def mSW (k : SK) (w : SW) (z : MS) : Prop := mA z 53 0 = nI (wY w) ∧ (∀ p, p < kP k → mA z 53 (1 + 5 * p) = nI (wM w p) - 1 ∧ mA z 53 (1 + 5 * p + 1) = nI (wR w p) ∧ mA z 53 (1 + 5 * p + 2) = nI (wW w p) ∧ mA z 53 (1 + 5 * p + 3) = nI (wL' w p) ∧ mA z 53 (1 + 5 * p + 4) = nI (wF w p))
def mOk (k : SK) (w : SW) (z : MS) : Prop := kOk k ∧ wOk k w ∧ mSK k z ∧ mSW k w z
theorem ck_t {β : Type} {b : Bool} {k : Option β} (h : b = true) : ck b k = k := by subst h; rfl
theorem bnd_s {α σ β : Type} (r : α) (x : σ) (k : α → σ → Option β) : bnd (some (r, x)) k = k r x := rfl
theorem m_personMany_v {k : SK} {w : SW} {z : MS} (h : mOk k w z) : m_personMany z = some (nI (kP k), z) := by
  unfold m_personMany
  rw [show (Int32.toNatClampNeg 3) = 3 from by decide, h.2.2.1.2.1]
theorem m_masterOf_v {k : SK} {w : SW} {z : MS} (h : mOk k w z) {p : Nat} (hp : p < kP k) : m_masterOf (nI p) z = some (nI (wM w p) - 1, z) := by
  have h8 := h.1.2.1
  unfold m_masterOf
  rw [ix0, ck_t (inb_nI (by show _ < 132; omega) (by decide)), nI_c (by omega), (h.2.2.2.2 p hp).1]
theorem m_factMany_v {k : SK} {w : SW} {z : MS} (h : mOk k w z) : m_factMany z = some (nI (kF k), z) := by
  unfold m_factMany
  rw [show (Int32.toNatClampNeg 2) = 2 from by decide, h.2.2.1.1]
theorem m_rightOf_v {k : SK} {w : SW} {z : MS} (h : mOk k w z) {p : Nat} (hp : p < kP k) : m_rightOf (nI p) z = some (nI (wR w p), z) := by
  have h8 := h.1.2.1
  unfold m_rightOf
  rw [ix0, show (1 : Int32) = nI 1 from rfl, ixk, ck_t (inb_nI (by show _ < 132; omega) (by decide)), nI_c (by omega), (h.2.2.2.2 p hp).2.1]
theorem m_wrongOf_v {k : SK} {w : SW} {z : MS} (h : mOk k w z) {p : Nat} (hp : p < kP k) : m_wrongOf (nI p) z = some (nI (wW w p), z) := by
  have h8 := h.1.2.1
  unfold m_wrongOf
  rw [ix0, show (2 : Int32) = nI 2 from rfl, ixk, ck_t (inb_nI (by show _ < 132; omega) (by decide)), nI_c (by omega), (h.2.2.2.2 p hp).2.2.1]
theorem m_leftOf_v {k : SK} {w : SW} {z : MS} (h : mOk k w z) {p : Nat} (hp : p < kP k) : m_leftOf (nI p) z = some (nI (wL' w p), z) := by
  have h8 := h.1.2.1
  unfold m_leftOf
  rw [ix0, show (3 : Int32) = nI 3 from rfl, ixk, ck_t (inb_nI (by show _ < 132; omega) (by decide)), nI_c (by omega), (h.2.2.2.2 p hp).2.2.2.1]
theorem two8 {n : Nat} (h : n ≤ 8) : 2 ^ n ≤ 256 := by
  have := Nat.pow_le_pow_right (n := 2) (by decide) h
  simpa using this
theorem mOk.r8 {k : SK} {w : SW} {z : MS} (h : mOk k w z) {p : Nat} (hp : p < kP k) : wR w p < 256 := Nat.lt_of_lt_of_le (h.2.1.2.2 p hp).2.1 (two8 h.1.1)
theorem mOk.w8 {k : SK} {w : SW} {z : MS} (h : mOk k w z) {p : Nat} (hp : p < kP k) : wW w p < 256 := Nat.lt_of_lt_of_le (h.2.1.2.2 p hp).2.2.1 (two8 h.1.1)
/-- 0 neither, 1 right, 2 wrong -/
def sIs (w : SW) (p f : Nat) : Nat := if (wR w p).testBit f = true then 1 else if (wW w p).testBit f = true then 2 else 0
theorem m_isOf_v {k : SK} {w : SW} {z : MS} (h : mOk k w z) {p f : Nat} (hp : p < kP k) (hf : f < 8) : m_isOf (nI p) (nI f) z = some (nI (sIs w p f), z) := by
  unfold m_isOf
  rw [m_rightOf_v h hp, bnd_s]
  by_cases c : (wR w p).testBit f = true
  · rw [if_pos ((s_has _ (h.r8 hp) f hf).mpr c)]
    unfold sIs
    rw [if_pos c]
    rfl
  · rw [if_neg (fun q => c ((s_has _ (h.r8 hp) f hf).mp q)), m_wrongOf_v h hp, bnd_s]
    unfold sIs
    rw [if_neg c]
    by_cases c2 : (wW w p).testBit f = true
    · rw [if_pos ((s_has _ (h.w8 hp) f hf).mpr c2), if_pos c2]
      rfl
    · rw [if_neg (fun q => c2 ((s_has _ (h.w8 hp) f hf).mp q)), if_neg c2]
      rfl
/-- the pupils of one (told as in wM: m + 1; 0 for none) -/
def sPup (w : SW) (n m : Nat) : Nat := itN (fun p s => if wM w p = m then s ||| 2 ^ p else s) n 0 0
theorem m1_inj {a b : Nat} (ha : a < 1000) (hb : b < 1000) : nI a - 1 = nI b - 1 ↔ a = b := by
  constructor
  · intro e
    have e2 : nI a = nI b := by
      have : nI a - 1 + 1 = nI b - 1 + 1 := by rw [e]
      rwa [Int32.sub_add_cancel, Int32.sub_add_cancel] at this
    exact (nI_eq (by omega) (by omega)).mp e2
  · intro e
    rw [e]
theorem jn_s {α β : Type} (f : α) (k : α → β) : jn f k = k f := rfl
theorem m_pupilsOf_v {k : SK} {w : SW} {z : MS} (h : mOk k w z) {m : Nat} (hm : m ≤ 8) : m_pupilsOf (nI m - 1) z = some (nI (sPup w (kP k) m), z) := by
  have h8 := h.1.2.1
  unfold m_pupilsOf
  refine fx_gen (F := m_pupilsOf_L4 (nI m - 1)) (z := fun _ _ _ => none) (fun s j a => s (nI a) (nI j) z) (kP k) (fun p s => if wM w p = m then s ||| 2 ^ p else s) (fun _ a => a < 256) (fun a => some (nI a, z)) ?_ ?_ ?_ FU 0 0 (Nat.zero_le _) (by decide) (FU_gt (by omega))
  · intro s j a hj ha
    have hw := (h.2.1.2.2 j hj).1
    show m_pupilsOf_L4 (nI m - 1) s (nI a) (nI j) z = _
    unfold m_pupilsOf_L4
    rw [m_personMany_v h, bnd_s, if_neg (nI_ge hj (by omega)), m_masterOf_v h hj, bnd_s, jn_s, nI_1]
    by_cases c : wM w j = m
    · rw [if_pos ((m1_inj (by omega) (by omega)).mpr c), s_or a ha j (by omega), if_pos c]
    · rw [if_neg (fun q => c ((m1_inj (by omega) (by omega)).mp q)), if_neg c]
  · intro j a hj ha
    by_cases c : wM w j = m
    · rw [if_pos c]
      exact s_orlt a ha j (by omega)
    · rw [if_neg c]
      exact ha
  · intro s a ha
    show m_pupilsOf_L4 (nI m - 1) s (nI a) (nI (kP k)) z = _
    unfold m_pupilsOf_L4
    rw [m_personMany_v h, bnd_s, if_pos (nI_le (Nat.le_refl _) (by omega))]
theorem s_b : ∀ s, s < 256 → ∀ k, k < 8 → ((nI s >>> (nI k &&& 31)) &&& 1) = nI (if s.testBit k = true then 1 else 0) := by decide +kernel
theorem s_dec : ∀ s, s < 256 → s ≠ 0 → nI s &&& (nI s - 1) = nI (s &&& (s - 1)) ∧ s &&& (s - 1) < s ∧ pop s = pop (s &&& (s - 1)) + 1 := by decide +kernel
theorem m_bits_v {s : Nat} (hs : s < 256) (z : MS) : m_bits (nI s) z = some (nI (pop s), z) := by
  unfold m_bits
  have key := fx_indG (F := m_bits_L4) (z := fun _ _ _ => none) (fun f (a : Nat × Nat) => f (nI a.1) (nI a.2) z) (fun a => a.2) (fun a => a.2 < 256) (fun a => some (nI (a.1 + pop a.2), z)) ?_ FU (0, s) hs (FU_gt (show s < 1000000 by omega))
  · rw [Nat.zero_add] at key
    exact key
  · intro f a ha ih
    obtain ⟨c, s⟩ := a
    show m_bits_L4 f (nI c) (nI s) z = some (nI (c + pop s), z)
    have ha : s < 256 := ha
    unfold m_bits_L4
    by_cases h0 : s = 0
    · subst h0
      rw [if_pos (by decide)]
      rfl
    · obtain ⟨e1, e2, e3⟩ := s_dec s ha h0
      rw [if_neg (nI_ne0 (by omega) (by omega)), e1, nI_1]
      have := ih (c + 1, s &&& (s - 1)) (show _ < 256 by omega) e2
      rw [e3, show c + (pop (s &&& (s - 1)) + 1) = c + 1 + pop (s &&& (s - 1)) by omega]
      exact this
/-- how many are right, wrong of a fact -/
def sRiM (w : SW) (n f : Nat) : Nat := itN (fun p s => s + if (wR w p).testBit f = true then 1 else 0) n 0 0
def sWrM (w : SW) (n f : Nat) : Nat := itN (fun p s => s + if (wW w p).testBit f = true then 1 else 0) n 0 0
theorem m_rightMany_v {k : SK} {w : SW} {z : MS} (h : mOk k w z) {f : Nat} (hf : f < 8) : m_rightMany (nI f) z = some (nI (sRiM w (kP k) f), z) := by
  have h8 := h.1.2.1
  unfold m_rightMany
  refine fx_gen (F := m_rightMany_L4 (nI f)) (z := fun _ _ _ => none) (fun s j a => s (nI a) (nI j) z) (kP k) (fun p s => s + if (wR w p).testBit f = true then 1 else 0) (fun _ _ => True) (fun a => some (nI a, z)) ?_ (fun _ _ _ _ => trivial) ?_ FU 0 0 (Nat.zero_le _) trivial (FU_gt (by omega))
  · intro s j a hj _
    show m_rightMany_L4 (nI f) s (nI a) (nI j) z = _
    unfold m_rightMany_L4
    rw [m_personMany_v h, bnd_s, if_neg (nI_ge hj (by omega)), m_rightOf_v h hj, bnd_s, s_b _ (h.r8 hj) f hf, nI_add, nI_1]
  · intro s a _
    show m_rightMany_L4 (nI f) s (nI a) (nI (kP k)) z = _
    unfold m_rightMany_L4
    rw [m_personMany_v h, bnd_s, if_pos (nI_le (Nat.le_refl _) (by omega))]
theorem m_wrongMany_v {k : SK} {w : SW} {z : MS} (h : mOk k w z) {f : Nat} (hf : f < 8) : m_wrongMany (nI f) z = some (nI (sWrM w (kP k) f), z) := by
  have h8 := h.1.2.1
  unfold m_wrongMany
  refine fx_gen (F := m_wrongMany_L4 (nI f)) (z := fun _ _ _ => none) (fun s j a => s (nI a) (nI j) z) (kP k) (fun p s => s + if (wW w p).testBit f = true then 1 else 0) (fun _ _ => True) (fun a => some (nI a, z)) ?_ (fun _ _ _ _ => trivial) ?_ FU 0 0 (Nat.zero_le _) trivial (FU_gt (by omega))
  · intro s j a hj _
    show m_wrongMany_L4 (nI f) s (nI a) (nI j) z = _
    unfold m_wrongMany_L4
    rw [m_personMany_v h, bnd_s, if_neg (nI_ge hj (by omega)), m_wrongOf_v h hj, bnd_s, s_b _ (h.w8 hj) f hf, nI_add, nI_1]
  · intro s a _
    show m_wrongMany_L4 (nI f) s (nI a) (nI (kP k)) z = _
    unfold m_wrongMany_L4
    rw [m_personMany_v h, bnd_s, if_pos (nI_le (Nat.le_refl _) (by omega))]
/-- the marks of one -/
def sMk (k : SK) (w : SW) (p : Nat) : Int32 := itN (fun f s => s + if (wR w p).testBit f = true then nI (kWo k f) else if (wW w p).testBit f = true then - nI (kWo k f) else 0) (kF k) 0 0
theorem m_marksOf_v {k : SK} {w : SW} {z : MS} (h : mOk k w z) {p : Nat} (hp : p < kP k) : m_marksOf (nI p) z = some (sMk k w p, z) := by
  have h8 := h.1.1
  unfold m_marksOf
  refine fx_gen (F := m_marksOf_L4 (nI p)) (z := fun _ _ _ => none) (fun s j (a : Int32) => s a (nI j) z) (kF k) (fun f s => s + if (wR w p).testBit f = true then nI (kWo k f) else if (wW w p).testBit f = true then - nI (kWo k f) else 0) (fun _ _ => True) (fun a => some (a, z)) ?_ (fun _ _ _ _ => trivial) ?_ FU 0 0 (Nat.zero_le _) trivial (FU_gt (by omega))
  · intro s j a hj _
    show m_marksOf_L4 (nI p) s a (nI j) z = _
    unfold m_marksOf_L4
    rw [m_factMany_v h, bnd_s, if_neg (nI_ge hj (by omega)), show (8 : Int32) = nI 8 from rfl, ixk, ck_t (inb_nI (by show _ < 16; omega) (by decide)), m_rightOf_v h hp, bnd_s, m_wrongOf_v h hp, bnd_s, s_b _ (h.r8 hp) j (by omega), s_b _ (h.w8 hp) j (by omega), nI_c (by omega), h.2.2.1.2.2.1 j hj, nI_1]
    have hd := (h.2.1.2.2 p hp).2.2.2.1 j (by omega)
    by_cases c1 : (wR w p).testBit j = true
    · have c2 : ¬ (wW w p).testBit j = true := fun q => hd ⟨c1, q⟩
      rw [if_pos c1, if_pos c1, if_neg c2, show nI 1 - nI 0 = 1 from by decide, Int32.mul_one]
    · rw [if_neg c1, if_neg c1]
      by_cases c2 : (wW w p).testBit j = true
      · rw [if_pos c2, if_pos c2, show nI 0 - nI 1 = -1 from by decide, Int32.mul_neg, Int32.mul_one]
      · rw [if_neg c2, if_neg c2, show nI 0 - nI 0 = 0 from by decide, Int32.mul_zero]
  · intro s a _
    show m_marksOf_L4 (nI p) s a (nI (kF k)) z = _
    unfold m_marksOf_L4
    rw [m_factMany_v h, bnd_s, if_pos (nI_le (Nat.le_refl _) (by omega))]
theorem fl_1 : ∀ x, x < 4 → (nI x &&& 1 = 0 ↔ x.testBit 0 = false) := by decide +kernel
theorem fl_2 : ∀ x, x < 4 → (nI x &&& 2 = 0 ↔ x.testBit 1 = false) := by decide +kernel
theorem mOk.f4 {k : SK} {w : SW} {z : MS} (h : mOk k w z) {p : Nat} (hp : p < kP k) : wF w p < 4 := (h.2.1.2.2 p hp).2.2.2.2.2
theorem m_hasPassed_v {k : SK} {w : SW} {z : MS} (h : mOk k w z) {p : Nat} (hp : p < kP k) : m_hasPassed (nI p) z = some ((wF w p).testBit 0, z) := by
  have h8 := h.1.2.1
  unfold m_hasPassed
  rw [ix0, show (4 : Int32) = nI 4 from rfl, ixk, ck_t (inb_nI (by show _ < 132; omega) (by decide)), nI_c (by omega), (h.2.2.2.2 p hp).2.2.2.2]
  cases hb : (wF w p).testBit 0 with
  | false => rw [if_pos ((fl_1 _ (h.f4 hp)).mpr hb)]
  | true => rw [if_neg (fun q => by rw [(fl_1 _ (h.f4 hp)).mp q] at hb; cases hb)]
theorem m_isDoctor_v {k : SK} {w : SW} {z : MS} (h : mOk k w z) {p : Nat} (hp : p < kP k) : m_isDoctor (nI p) z = some ((wF w p).testBit 1, z) := by
  have h8 := h.1.2.1
  unfold m_isDoctor
  rw [ix0, show (4 : Int32) = nI 4 from rfl, ixk, ck_t (inb_nI (by show _ < 132; omega) (by decide)), nI_c (by omega), (h.2.2.2.2 p hp).2.2.2.2]
  cases hb : (wF w p).testBit 1 with
  | false => rw [if_pos ((fl_2 _ (h.f4 hp)).mpr hb)]
  | true => rw [if_neg (fun q => by rw [(fl_2 _ (h.f4 hp)).mp q] at hb; cases hb)]
theorem m_isPerson_v {k : SK} {w : SW} {z : MS} (h : mOk k w z) (a : Int32) : ∃ b : Bool, m_isPerson a z = some (b, z) ∧ (b = true ↔ ∃ p, p < kP k ∧ a = nI p) := by
  have h8 := h.1.2.1
  unfold m_isPerson m_isIn
  rw [m_personMany_v h, bnd_s]
  have hk : (nI (kP k) - 1).toInt = (kP k : Int) - 1 := by
    have : ∀ n, n ≤ 8 → (nI n - 1).toInt = (n : Int) - 1 := by decide +kernel
    exact this _ h8
  have e1 : (a.toInt64 < 0) ↔ a.toInt < 0 := by rw [Int64.lt_iff_toInt_lt, Int32.toInt_toInt64]; rfl
  have e2 : ((nI (kP k) - 1).toInt64 < a.toInt64) ↔ (kP k : Int) - 1 < a.toInt := by rw [Int64.lt_iff_toInt_lt, Int32.toInt_toInt64, Int32.toInt_toInt64, hk]
  by_cases c1 : a.toInt64 < 0
  · refine ⟨false, ?_, ?_⟩
    · rw [jn_s, if_pos c1]
      rfl
    · constructor
      · intro q
        cases q
      · rintro ⟨p, hp, rfl⟩
        have := e1.mp c1
        rw [nI_toInt (by omega)] at this
        omega
  · by_cases c2 : (nI (kP k) - 1).toInt64 < a.toInt64
    · refine ⟨false, ?_, ?_⟩
      · rw [jn_s, if_neg c1, if_pos c2]
        rfl
      · constructor
        · intro q
          cases q
        · rintro ⟨p, hp, rfl⟩
          have := e2.mp c2
          rw [nI_toInt (by omega)] at this
          omega
    · refine ⟨true, ?_, ?_⟩
      · rw [jn_s, if_neg c1, if_neg c2]
        rfl
      · refine ⟨fun _ => ?_, fun _ => rfl⟩
        have g1 : ¬ a < 0 := fun q => c1 (e1.mpr (Int32.lt_iff_toInt_lt.mp q))
        obtain ⟨p, hp, rfl⟩ := nI_of g1
        have g2 : ¬ _ := fun q => c2 (e2.mpr q)
        rw [nI_toInt hp] at g2
        exact ⟨p, by omega, rfl⟩
theorem m_isFact_v {k : SK} {w : SW} {z : MS} (h : mOk k w z) (a : Int32) : ∃ b : Bool, m_isFact a z = some (b, z) ∧ (b = true ↔ ∃ p, p < kF k ∧ a = nI p) := by
  have h8 := h.1.1
  unfold m_isFact m_isIn
  rw [m_factMany_v h, bnd_s]
  have hk : (nI (kF k) - 1).toInt = (kF k : Int) - 1 := by
    have : ∀ n, n ≤ 8 → (nI n - 1).toInt = (n : Int) - 1 := by decide +kernel
    exact this _ h8
  have e1 : (a.toInt64 < 0) ↔ a.toInt < 0 := by rw [Int64.lt_iff_toInt_lt, Int32.toInt_toInt64]; rfl
  have e2 : ((nI (kF k) - 1).toInt64 < a.toInt64) ↔ (kF k : Int) - 1 < a.toInt := by rw [Int64.lt_iff_toInt_lt, Int32.toInt_toInt64, Int32.toInt_toInt64, hk]
  by_cases c1 : a.toInt64 < 0
  · refine ⟨false, ?_, ?_⟩
    · rw [jn_s, if_pos c1]
      rfl
    · constructor
      · intro q
        cases q
      · rintro ⟨p, hp, rfl⟩
        have := e1.mp c1
        rw [nI_toInt (by omega)] at this
        omega
  · by_cases c2 : (nI (kF k) - 1).toInt64 < a.toInt64
    · refine ⟨false, ?_, ?_⟩
      · rw [jn_s, if_neg c1, if_pos c2]
        rfl
      · constructor
        · intro q
          cases q
        · rintro ⟨p, hp, rfl⟩
          have := e2.mp c2
          rw [nI_toInt (by omega)] at this
          omega
    · refine ⟨true, ?_, ?_⟩
      · rw [jn_s, if_neg c1, if_neg c2]
        rfl
      · refine ⟨fun _ => ?_, fun _ => rfl⟩
        have g1 : ¬ a < 0 := fun q => c1 (e1.mpr (Int32.lt_iff_toInt_lt.mp q))
        obtain ⟨p, hp, rfl⟩ := nI_of g1
        have g2 : ¬ _ := fun q => c2 (e2.mpr q)
        rw [nI_toInt hp] at g2
        exact ⟨p, by omega, rfl⟩
/-- those with a flag -/
def sWho (w : SW) (n b : Nat) : Nat := itN (fun p s => if (wF w p).testBit b = true then s ||| 2 ^ p else s) n 0 0
theorem m_thoseWho_v {k : SK} {w : SW} {z : MS} (h : mOk k w z) {b : Nat} (hb : b < 2) : m_thoseWho (nI (b + 1)) z = some (nI (sWho w (kP k) b), z) := by
  have h8 := h.1.2.1
  have fl : ∀ x, x < 4 → (nI x &&& nI (b + 1) = 0 ↔ x.testBit b = false) := by
    rcases (show b = 0 ∨ b = 1 by omega) with rfl | rfl
    · exact fl_1
    · exact fl_2
  unfold m_thoseWho
  refine fx_gen (F := m_thoseWho_L4 (nI (b + 1))) (z := fun _ _ _ => none) (fun s j a => s (nI a) (nI j) z) (kP k) (fun p s => if (wF w p).testBit b = true then s ||| 2 ^ p else s) (fun _ a => a < 256) (fun a => some (nI a, z)) ?_ ?_ ?_ FU 0 0 (Nat.zero_le _) (by decide) (FU_gt (by omega))
  · intro s j a hj ha
    show m_thoseWho_L4 (nI (b + 1)) s (nI a) (nI j) z = _
    unfold m_thoseWho_L4
    rw [m_personMany_v h, bnd_s, if_neg (nI_ge hj (by omega)), ix0, show (4 : Int32) = nI 4 from rfl, ixk, ck_t (inb_nI (by show _ < 132; omega) (by decide)), jn_s, nI_c (by omega), (h.2.2.2.2 j hj).2.2.2.2, nI_1]
    cases hb : (wF w j).testBit b with
    | false => rw [if_pos ((fl _ (h.f4 hj)).mpr hb), if_neg (by decide)]
    | true => rw [if_neg (fun q => by rw [(fl _ (h.f4 hj)).mp q] at hb; cases hb), if_pos rfl, s_or a ha j (by omega)]
  · intro j a hj ha
    by_cases c : (wF w j).testBit b = true
    · rw [if_pos c]
      exact s_orlt a ha j (by omega)
    · rw [if_neg c]
      exact ha
  · intro s a ha
    show m_thoseWho_L4 (nI (b + 1)) s (nI a) (nI (kP k)) z = _
    unfold m_thoseWho_L4
    rw [m_personMany_v h, bnd_s, if_pos (nI_le (Nat.le_refl _) (by omega))]
def sBel (w : SW) (n : Nat) (r : Bool) : Nat := itN (fun p s => s + pop (if r = true then wR w p else wW w p)) n 0 0
theorem m_beliefs_v {k : SK} {w : SW} {z : MS} (h : mOk k w z) (r : Bool) : m_beliefs r z = some (nI (sBel w (kP k) r), z) := by
  have h8 := h.1.2.1
  unfold m_beliefs
  refine fx_gen (F := m_beliefs_L4 r) (z := fun _ _ _ => none) (fun s j a => s (nI a) (nI j) z) (kP k) (fun p s => s + pop (if r = true then wR w p else wW w p)) (fun _ _ => True) (fun a => some (nI a, z)) ?_ (fun _ _ _ _ => trivial) ?_ FU 0 0 (Nat.zero_le _) trivial (FU_gt (by omega))
  · intro s j a hj _
    show m_beliefs_L4 r s (nI a) (nI j) z = _
    unfold m_beliefs_L4
    rw [m_personMany_v h, bnd_s, if_neg (nI_ge hj (by omega)), jn_s, nI_1]
    cases r with
    | false => rw [if_pos (by decide), m_wrongOf_v h hj, bnd_s]; show bnd (m_bits (nI (wW w j)) z) _ = _; rw [m_bits_v (h.w8 hj), bnd_s, nI_add, if_neg (by decide)]
    | true => rw [if_neg (by decide), m_rightOf_v h hj, bnd_s]; show bnd (m_bits (nI (wR w j)) z) _ = _; rw [m_bits_v (h.r8 hj), bnd_s, nI_add, if_pos rfl]
  · intro s a _
    show m_beliefs_L4 r s (nI a) (nI (kP k)) z = _
    unfold m_beliefs_L4
    rw [m_personMany_v h, bnd_s, if_pos (nI_le (Nat.le_refl _) (by omega))]
