/-! PART 14: plain: the Model's words of parts, its codes and its stack -/
set_option maxRecDepth 100000
section RE
variable {n : Nat} {b : Nat → Nat}
theorem m_isHere_j {w : Nat} {W : List Nat} (hW : mW w = W.map nI) (hN : mN w = W.length) (h256 : ∀ x, x ∈ W → x < 256) {j : Nat} {z : MS} (h : mAt n b j z) (hj : sSk n b j = j) (h5 : mI z 5 = 0) : m_isHere w z = some (hB n b j W, z) := by
  have := m_isHere_v hW hN h256 h h5
  rw [hj, ← h.2.1, wI_self] at this
  exact this
theorem m_look_j {j : Nat} {z : MS} (h : mAt n b j z) (hj : sSk n b j = j) : m_look z = some (rI n b j, z) := by
  have := m_look_v h
  rw [hj, ← h.2.1, wI_self] at this
  exact this
def wrdW : List (List Nat) := [[99, 97, 108, 109], [114, 105, 103, 104, 116], [119, 114, 111, 110, 103], [121, 101, 97, 114], [119, 111, 114, 116, 104], [99, 108, 97, 115, 115], [109, 99, 97, 108, 109], [108, 101, 102, 116], [109, 97, 114, 107, 115], [110, 117, 109, 98, 101, 114], [107, 110, 111, 119, 115], [101, 114, 114, 115], [98, 121]]
def whI (n : Nat) (b : Nat → Nat) (j : Nat) : Int32 := match rWordJ n b j with
  | .inl _ => -1
  | .inr (v, _) => oM1 (fndW wrdW v.1 0)
theorem m_qWordHere_v {j : Nat} {z : MS} (h : mAt n b j z) (hj : sSk n b j = j) (h5 : mI z 5 = 0) : m_qWordHere z = some (whI n b j, z) := by
  have tt : ∀ (W : List Nat) (k : Nat), fndW wrdW W 0 = some k → hB n b j W = true → whI n b j = nI k := by
    intro W k hk c
    obtain ⟨v, q1, q2, -⟩ := hB_t c
    unfold whI
    rw [q1]
    show oM1 (fndW wrdW v.1 0) = nI k
    rw [q2, hk]
    rfl
  unfold m_qWordHere
  rw [m_isHere_j (w := 80) (W := [99, 97, 108, 109]) rfl rfl (by decide) h hj h5, bnd_s]
  cases c0 : hB n b j [99, 97, 108, 109] with
  | true => rw [if_neg (by decide), tt _ 0 (by decide) c0]; rfl
  | false =>
  rw [if_pos (by decide)]
  rw [m_isHere_j (w := 81) (W := [114, 105, 103, 104, 116]) rfl rfl (by decide) h hj h5, bnd_s]
  cases c1 : hB n b j [114, 105, 103, 104, 116] with
  | true => rw [if_neg (by decide), tt _ 1 (by decide) c1]; rfl
  | false =>
  rw [if_pos (by decide)]
  rw [m_isHere_j (w := 82) (W := [119, 114, 111, 110, 103]) rfl rfl (by decide) h hj h5, bnd_s]
  cases c2 : hB n b j [119, 114, 111, 110, 103] with
  | true => rw [if_neg (by decide), tt _ 2 (by decide) c2]; rfl
  | false =>
  rw [if_pos (by decide)]
  rw [m_isHere_j (w := 83) (W := [121, 101, 97, 114]) rfl rfl (by decide) h hj h5, bnd_s]
  cases c3 : hB n b j [121, 101, 97, 114] with
  | true => rw [if_neg (by decide), tt _ 3 (by decide) c3]; rfl
  | false =>
  rw [if_pos (by decide)]
  rw [m_isHere_j (w := 84) (W := [119, 111, 114, 116, 104]) rfl rfl (by decide) h hj h5, bnd_s]
  cases c4 : hB n b j [119, 111, 114, 116, 104] with
  | true => rw [if_neg (by decide), tt _ 4 (by decide) c4]; rfl
  | false =>
  rw [if_pos (by decide)]
  rw [m_isHere_j (w := 85) (W := [99, 108, 97, 115, 115]) rfl rfl (by decide) h hj h5, bnd_s]
  cases c5 : hB n b j [99, 108, 97, 115, 115] with
  | true => rw [if_neg (by decide), tt _ 5 (by decide) c5]; rfl
  | false =>
  rw [if_pos (by decide)]
  rw [m_isHere_j (w := 86) (W := [109, 99, 97, 108, 109]) rfl rfl (by decide) h hj h5, bnd_s]
  cases c6 : hB n b j [109, 99, 97, 108, 109] with
  | true => rw [if_neg (by decide), tt _ 6 (by decide) c6]; rfl
  | false =>
  rw [if_pos (by decide)]
  rw [m_isHere_j (w := 87) (W := [108, 101, 102, 116]) rfl rfl (by decide) h hj h5, bnd_s]
  cases c7 : hB n b j [108, 101, 102, 116] with
  | true => rw [if_neg (by decide), tt _ 7 (by decide) c7]; rfl
  | false =>
  rw [if_pos (by decide)]
  rw [m_isHere_j (w := 88) (W := [109, 97, 114, 107, 115]) rfl rfl (by decide) h hj h5, bnd_s]
  cases c8 : hB n b j [109, 97, 114, 107, 115] with
  | true => rw [if_neg (by decide), tt _ 8 (by decide) c8]; rfl
  | false =>
  rw [if_pos (by decide)]
  rw [m_isHere_j (w := 89) (W := [110, 117, 109, 98, 101, 114]) rfl rfl (by decide) h hj h5, bnd_s]
  cases c9 : hB n b j [110, 117, 109, 98, 101, 114] with
  | true => rw [if_neg (by decide), tt _ 9 (by decide) c9]; rfl
  | false =>
  rw [if_pos (by decide)]
  rw [m_isHere_j (w := 90) (W := [107, 110, 111, 119, 115]) rfl rfl (by decide) h hj h5, bnd_s]
  cases c10 : hB n b j [107, 110, 111, 119, 115] with
  | true => rw [if_neg (by decide), tt _ 10 (by decide) c10]; rfl
  | false =>
  rw [if_pos (by decide)]
  rw [m_isHere_j (w := 91) (W := [101, 114, 114, 115]) rfl rfl (by decide) h hj h5, bnd_s]
  cases c11 : hB n b j [101, 114, 114, 115] with
  | true => rw [if_neg (by decide), tt _ 11 (by decide) c11]; rfl
  | false =>
  rw [if_pos (by decide)]
  rw [m_isHere_j (w := 92) (W := [98, 121]) rfl rfl (by decide) h hj h5, bnd_s]
  cases c12 : hB n b j [98, 121] with
  | true => rw [if_neg (by decide), tt _ 12 (by decide) c12]; rfl
  | false =>
  rw [if_pos (by decide)]
  have e : whI n b j = -1 := by
    unfold whI
    cases q : rWordJ n b j with
    | inl g => rfl
    | inr p =>
      obtain ⟨v, e⟩ := p
      have ff : ∀ W : List Nat, hB n b j W = false → ¬ W = v.1 := by
        intro W hW e
        unfold hB at hW
        rw [q] at hW
        exact of_decide_eq_false hW e.symm
      show oM1 (fndW wrdW v.1 0) = -1
      unfold wrdW
      simp only [fndW, if_neg (ff _ c0), if_neg (ff _ c1), if_neg (ff _ c2), if_neg (ff _ c3), if_neg (ff _ c4), if_neg (ff _ c5), if_neg (ff _ c6), if_neg (ff _ c7), if_neg (ff _ c8), if_neg (ff _ c9), if_neg (ff _ c10), if_neg (ff _ c11), if_neg (ff _ c12)]
      rfl
  rw [e]
theorem m_isAllowed_v {z : MS} {q k : Nat} (h52 : mI z 52 = nI q) (hq : q < 3) (hk : k < 13) : m_isAllowed (nI k) z = some (alOf q k, z) := by
  unfold m_isAllowed
  simp only [jn_s, h52]
  rcases (show k = 0 ∨ k = 1 ∨ k = 2 ∨ k = 3 ∨ k = 4 ∨ k = 5 ∨ k = 6 ∨ k = 7 ∨ k = 8 ∨ k = 9 ∨ k = 10 ∨ k = 11 ∨ k = 12 by omega) with rfl | rfl | rfl | rfl | rfl | rfl | rfl | rfl | rfl | rfl | rfl | rfl | rfl <;>
    rcases (show q = 0 ∨ q = 1 ∨ q = 2 by omega) with rfl | rfl | rfl <;> rfl
theorem fndW_app (w w' : List Nat) : ∀ (l : List (List Nat)) (m : Nat), fndW (l ++ [w']) w m = match fndW l w m with
    | some k => some k
    | none => if w' = w then some (m + l.length) else none
  | [], m => rfl
  | x :: l, m => by
    show (if x = w then some m else fndW (l ++ [w']) w (m + 1)) = match (if x = w then some m else fndW l w (m + 1)) with
      | some k => some k
      | none => if w' = w then some (m + (l.length + 1)) else none
    by_cases c : x = w
    · rw [if_pos c, if_pos c]
    · rw [if_neg c, if_neg c, fndW_app w w' l (m + 1), show m + 1 + l.length = m + (l.length + 1) by omega]
theorem fndW_wrd (w : List Nat) : fndW wrdW w 0 = match fndW prtW w 0 with
    | some k => some k
    | none => if wBy = w then some 12 else none := fndW_app w wBy prtW 0
theorem fndW_lt (w : List Nat) : ∀ (l : List (List Nat)) (m j : Nat), fndW l w m = some j → m ≤ j ∧ j < m + l.length ∧ l.getD (j - m) [] = w
  | [], m, j, hj => by cases hj
  | x :: l, m, j, hj => by
    have hj : (if x = w then some m else fndW l w (m + 1)) = some j := hj
    by_cases c : x = w
    · rw [if_pos c] at hj
      cases hj
      refine ⟨Nat.le_refl _, by show m < m + (l.length + 1); omega, ?_⟩
      rw [Nat.sub_self]
      exact c
    · rw [if_neg c] at hj
      obtain ⟨h1, h2, h3⟩ := fndW_lt w l (m + 1) j hj
      refine ⟨by omega, by show j < m + (l.length + 1); omega, ?_⟩
      rw [show j - m = (j - (m + 1)) + 1 by omega]
      exact h3
/-- the part's word at j, if it may stand here -/
def prtJ (n : Nat) (b : Nat → Nat) (q j : Nat) : Option Nat := match rWordJ n b j with
  | .inl _ => none
  | .inr (v, _) => prtA q v.1
def byJ (n : Nat) (b : Nat → Nat) (q j : Nat) : Bool := hB n b j wBy && decide (q = 2)
theorem m_qWordOf_p {j q : Nat} {z : MS} (h : mAt n b j z) (hj : sSk n b j = j) (h5 : mI z 5 = 0) (h52 : mI z 52 = nI q) (hq : q < 3) : m_qWordOf 0 12 z = some (oM1 (prtJ n b q j), z) := by
  unfold m_qWordOf
  rw [m_qWordHere_v h hj h5, bnd_s, jn_s]
  unfold whI prtJ
  cases qw : rWordJ n b j with
  | inl g => rw [if_pos (by show (-1 : Int32) < 0; decide)]; rfl
  | inr p =>
    obtain ⟨v, e⟩ := p
    show (if oM1 (fndW wrdW v.1 0) < 0 then some (-1, z) else if 12 ≤ oM1 (fndW wrdW v.1 0) then some (-1, z) else bnd (m_isAllowed (oM1 (fndW wrdW v.1 0)) z) fun r2 z3 => if bI r2 = 0 then some (-1, z3) else some (oM1 (fndW wrdW v.1 0), z3)) = some (oM1 (prtA q v.1), z)
    rw [fndW_wrd]
    unfold prtA
    cases qf : fndW prtW v.1 0 with
    | some k =>
      obtain ⟨-, k2, -⟩ := fndW_lt _ _ _ _ qf
      have k2 : k < 0 + 12 := k2
      show (if nI k < 0 then some (-1, z) else if 12 ≤ nI k then some (-1, z) else bnd (m_isAllowed (nI k) z) fun r2 z3 => if bI r2 = 0 then some (-1, z3) else some (nI k, z3)) = some (oM1 (if alOf q k = true then some k else none), z)
      rw [if_neg (nI_pos (by omega)), if_neg (show ¬ (12 : Int32) ≤ nI k from nI_ge (b := 12) (by omega) (by decide)), m_isAllowed_v h52 hq (by omega), bnd_s]
      cases alOf q k with
      | false => rw [if_pos (by decide), if_neg (by decide)]; rfl
      | true => rw [if_neg (by decide), if_pos rfl]; rfl
    | none =>
      by_cases c : wBy = v.1
      · show (if oM1 (if wBy = v.1 then some 12 else none) < 0 then _ else _) = _
        simp only [if_pos c]
        rfl
      · show (if oM1 (if wBy = v.1 then some 12 else none) < 0 then _ else _) = _
        simp only [if_neg c]
        rfl
theorem m_qWordOf_b {j q : Nat} {z : MS} (h : mAt n b j z) (hj : sSk n b j = j) (h5 : mI z 5 = 0) (h52 : mI z 52 = nI q) (hq : q < 3) : m_qWordOf 12 13 z = some ((if byJ n b q j = true then 12 else -1), z) := by
  unfold m_qWordOf
  rw [m_qWordHere_v h hj h5, bnd_s, jn_s]
  unfold whI byJ hB
  cases qw : rWordJ n b j with
  | inl g => rw [if_pos (by show (-1 : Int32) < 12; decide)]; rfl
  | inr p =>
    obtain ⟨v, e⟩ := p
    show (if oM1 (fndW wrdW v.1 0) < 12 then some (-1, z) else if 13 ≤ oM1 (fndW wrdW v.1 0) then some (-1, z) else bnd (m_isAllowed (oM1 (fndW wrdW v.1 0)) z) fun r2 z3 => if bI r2 = 0 then some (-1, z3) else some (oM1 (fndW wrdW v.1 0), z3)) = some ((if (decide (v.1 = wBy) && decide (q = 2)) = true then 12 else -1), z)
    rw [fndW_wrd]
    cases qf : fndW prtW v.1 0 with
    | some k =>
      obtain ⟨-, k2, -⟩ := fndW_lt _ _ _ _ qf
      have k2 : k < 0 + 12 := k2
      have c : ¬ v.1 = wBy := by
        intro e
        rw [e, show fndW prtW wBy 0 = none from by decide] at qf
        cases qf
      show (if nI k < 12 then some (-1, z) else _) = _
      rw [if_pos (show nI k < 12 from nI_lt (b := 12) (by omega) (by decide)), decide_eq_false c]
      rfl
    | none =>
      by_cases c : wBy = v.1
      · show (if oM1 (if wBy = v.1 then some 12 else none) < 12 then _ else _) = _
        simp only [if_pos c, decide_eq_true c.symm]
        show (if nI 12 < 12 then some (-1, z) else if 13 ≤ nI 12 then some (-1, z) else bnd (m_isAllowed (nI 12) z) fun r2 z3 => if bI r2 = 0 then some (-1, z3) else some (nI 12, z3)) = _
        rw [if_neg (by decide), if_neg (by decide), m_isAllowed_v h52 hq (by decide), bnd_s]
        rcases (show q = 0 ∨ q = 1 ∨ q = 2 by omega) with rfl | rfl | rfl <;> rfl
      · show (if oM1 (if wBy = v.1 then some 12 else none) < 12 then _ else _) = _
        simp only [if_neg c, decide_eq_false (fun q => c (Eq.symm q))]
        rfl
/-! codes and stack -/
def opn (σ : List Int32) : Nat := (σ.filter fun x => decide (¬ x < 12)).length
def mK (C σ : List Int32) (d bs : Nat) (z : MS) : Prop := mI z 94 = nI C.length ∧ (∀ i, i < C.length → mA z 93 i = C.getD i 0) ∧ mI z 96 = nI σ.length ∧ (∀ i, i < σ.length → mA z 95 i = σ.getD (σ.length - 1 - i) 0) ∧ mI z 97 = nI d ∧ mI z 98 = nI bs ∧ opn σ ≤ d ∧ d ≤ 6
def mQf (z0 z : MS) : Prop := (∀ a, a ≠ 2 → a ≠ 4 → a ≠ 5 → a ≠ 6 → a ≠ 94 → a ≠ 96 → a ≠ 97 → a ≠ 98 → mI z a = mI z0 a) ∧ z.2.1 = z0.2.1 ∧ (∀ a, a ≠ 93 → a ≠ 95 → mA z a = mA z0 a) ∧ z.2.2.2 = z0.2.2.2
theorem mQf.rf (z : MS) : mQf z z := ⟨fun _ _ _ _ _ _ _ _ _ => rfl, rfl, fun _ _ _ => rfl, rfl⟩
theorem mQf.tr {z1 z2 z3 : MS} (h : mQf z1 z2) (g : mQf z2 z3) : mQf z1 z3 := ⟨fun a h1 h2 h3 h4 h5 h6 h7 h8 => (g.1 a h1 h2 h3 h4 h5 h6 h7 h8).trans (h.1 a h1 h2 h3 h4 h5 h6 h7 h8), g.2.1.trans h.2.1, fun a h1 h2 => (g.2.2.1 a h1 h2).trans (h.2.2.1 a h1 h2), g.2.2.2.trans h.2.2.2⟩
theorem mQf.int (z : MS) {k : Nat} (hk : k = 2 ∨ k = 4 ∨ k = 5 ∨ k = 6 ∨ k = 94 ∨ k = 96 ∨ k = 97 ∨ k = 98) (v : Int32) : mQf z (wI z k v) := ⟨fun a _ _ _ _ _ _ _ _ => mI_ne z (by omega) v, rfl, fun _ _ _ => rfl, rfl⟩
theorem mQf.arr (z : MS) {k : Nat} (hk : k = 93 ∨ k = 95) (i : Nat) (v : Int32) : mQf z (wA z k i v) := ⟨fun a _ _ _ _ _ _ _ _ => rfl, rfl, fun a _ _ => mA_wne z (by omega) i v, rfl⟩
theorem mRd.qf {z z' : MS} (h : mRd z z') : mQf z z' := ⟨fun a h1 h2 h3 h4 _ _ _ _ => h.1 a h1 h2 h3 h4, by rw [h.2], fun a _ _ => by unfold mA; rw [h.2], by rw [h.2]⟩
theorem mRd.k {z z' : MS} (h : mRd z z') {C σ : List Int32} {d bs : Nat} (g : mK C σ d bs z) : mK C σ d bs z' := by
  have e : ∀ a, mA z' a = mA z a := fun a => by unfold mA; rw [h.2]
  unfold mK
  rw [h.1 94 (by decide) (by decide) (by decide) (by decide), h.1 96 (by decide) (by decide) (by decide) (by decide), h.1 97 (by decide) (by decide) (by decide) (by decide), h.1 98 (by decide) (by decide) (by decide) (by decide), e, e]
  exact g
/-- the Model reads sums: up to i, codes C, stack σ -/
def mQ (n : Nat) (b : Nat → Nat) (q : Nat) (z0 : MS) (i : Nat) (σ C : List Int32) (d bs : Nat) (z : MS) : Prop := mAt n b i z ∧ mI z 5 = 0 ∧ mI z 52 = nI q ∧ mK C σ d bs z ∧ mQf z0 z
/-- .. has found a fault -/
def mQF (z0 : MS) (k p M : Nat) (z : MS) : Prop := mI z 5 = nI k ∧ mI z 6 = nI p ∧ (0 < k ∧ k < 10) ∧ (∃ m, mI z 94 = nI m ∧ m ≤ M) ∧ mQf z0 z
theorem mQF.ne {z0 : MS} {k p M : Nat} {z : MS} (h : mQF z0 k p M z) : ¬ mI z 5 = 0 := by
  rw [h.1]
  exact nI_ne0 h.2.2.1.1 (by have := h.2.2.1.2; omega)
theorem mQF.up {z0 : MS} {k p M M' : Nat} {z : MS} (h : mQF z0 k p M z) (hm : M ≤ M') : mQF z0 k p M' z := by
  obtain ⟨h1, h2, h3, ⟨m, h4, h5⟩, h6⟩ := h
  exact ⟨h1, h2, h3, ⟨m, h4, by omega⟩, h6⟩
theorem mQF.int {z0 : MS} {k p M : Nat} {z : MS} (h : mQF z0 k p M z) {a : Nat} (ha : a = 2 ∨ a = 4 ∨ a = 96 ∨ a = 97 ∨ a = 98) (v : Int32) : mQF z0 k p M (wI z a v) := by
  obtain ⟨h1, h2, h3, ⟨m, h4, h5⟩, h6⟩ := h
  exact ⟨by rw [mI_ne z (by omega)]; exact h1, by rw [mI_ne z (by omega)]; exact h2, h3, ⟨m, by rw [mI_ne z (by omega)]; exact h4, h5⟩, h6.tr (mQf.int z (by omega) v)⟩
section MQ
variable {q : Nat} {z0 : MS} {i : Nat} {σ C : List Int32} {d bs : Nat} {z : MS}
theorem mQ.flt (h : mQ n b q z0 i σ C d bs z) (hC : C.length ≤ 1600) {k : Nat} (hk : 0 < k ∧ k < 10) (p : Nat) : mQF z0 k p 1600 (mFlt z k p) := by
  refine ⟨(mFlt_5 z k p).1, (mFlt_5 z k p).2, hk, ⟨C.length, ?_, hC⟩, h.2.2.2.2.tr (mRd.flt z k p).qf⟩
  rw [(mRd.flt z k p).1 94 (by decide) (by decide) (by decide) (by decide)]
  exact h.2.2.2.1.1
/-- another place -/
theorem mQ.at {z' : MS} (h : mQ n b q z0 i σ C d bs z) {i' : Nat} (hr : mRd z z') (h5 : mI z' 5 = 0) (ha : mAt n b i' z') : mQ n b q z0 i' σ C d bs z' :=
  ⟨ha, h5, by rw [hr.1 52 (by decide) (by decide) (by decide) (by decide)]; exact h.2.2.1, hr.k h.2.2.2.1, h.2.2.2.2.tr hr.qf⟩
theorem mQ.sk (h : mQ n b q z0 i σ C d bs z) : mQ n b q z0 (sSk n b i) σ C d bs (wI z 2 (nI (sSk n b i))) :=
  h.at (mRd.int z (by decide) _) (by rw [mI_ne z (by decide)]; exact h.2.1) h.1.sk
theorem mQ.ed (h : mQ n b q z0 i σ C d bs z) {e : Nat} (he : e ≤ n) (hp : pv b e = true) : mQ n b q z0 e σ C d bs (mEd z e) :=
  h.at (mRd.ed z e) (by unfold mEd; rw [mI_ne _ (by decide), mI_ne _ (by decide)]; exact h.2.1) (h.1.ed he hp)
theorem mQ.sg (h : mQ n b q z0 i σ C d bs z) {j : Nat} (hj : j < n) (hij : i ≤ j) (hs : isL (b j) = false ∧ isD (b j) = false) : mQ n b q z0 (j + 1) σ C d bs (wI z 2 (nI (j + 1))) :=
  h.at (mRd.int z (by decide) _) (by rw [mI_ne z (by decide)]; exact h.2.1) (h.1.sg hj hij hs)
theorem mAt.oth (h : mAt n b i z) {z' : MS} (h1 : mA z' 0 = mA z 0) (h2 : ∀ a, a = 2 ∨ a = 3 ∨ a = 4 ∨ a = 6 → mI z' a = mI z a) : mAt n b i z' := by
  obtain ⟨⟨g1, g2, g3⟩, g4, g5, g6, g7⟩ := h
  refine ⟨⟨g1, fun i hi => by rw [h1]; exact g2 i hi, by rw [h2 3 (by decide)]; exact g3⟩, by rw [h2 2 (by decide)]; exact g4, g5, fun a' => by rw [h2 4 (by decide)]; exact g6 a', by rw [h2 6 (by decide)]; exact g7⟩
theorem mQ.code (h : mQ n b q z0 i σ C d bs z) (hC : C.length < 1700) (x : Int32) : ∃ z', m_qCode x z = some z' ∧ mQ n b q z0 i σ (C ++ [x]) d bs z' := by
  obtain ⟨h1, h2, h3, ⟨k1, k2, k3, k4, k5, k6, k7⟩, h4⟩ := h
  unfold m_qCode
  refine ⟨wI (wA z 93 C.length x) 94 (nI (C.length + 1)), ?_, ?_⟩
  · rw [k1, ck_t (inb_nI (by show _ < 1700; exact hC) (by decide)), nm_s, nm_s, nI_c (show C.length < 2 ^ 31 by omega), mI_wA, k1, nI_1]
  · refine ⟨h1.oth ?_ ?_, ?_, ?_, ⟨?_, ?_, ?_, ?_, ?_, ?_, k7⟩, h4.tr ((mQf.arr z (by decide) _ _).tr (mQf.int _ (by decide) _))⟩
    · exact mA_wne z (by decide) _ _
    · intro a ha
      exact mI_ne _ (by omega) _
    · rw [mI_ne _ (by decide)]; exact h2
    · rw [mI_ne _ (by decide)]; exact h3
    · rw [mI_eq, List.length_append]; rfl
    · intro i hi
      rw [List.length_append] at hi
      have hi : i < C.length + 1 := hi
      show mA (wA z 93 C.length x) 93 i = _
      rw [mA_w]
      by_cases c : i = C.length
      · rw [if_pos c, c]
        simp [List.getD]
      · rw [if_neg c, k2 i (by omega)]
        simp [List.getD, List.getElem?_append_left (show i < C.length by omega)]
    · rw [mI_ne _ (by decide)]; exact k3
    · intro i hi
      show mA (wA z 93 C.length x) 95 i = _
      rw [mA_wne z (by decide)]
      exact k4 i hi
    · rw [mI_ne _ (by decide)]; exact k5
    · rw [mI_ne _ (by decide)]; exact k6
theorem mQF.code {k p M : Nat} (h : mQF z0 k p M z) (hM : M < 1690) (x : Int32) : ∃ z', m_qCode x z = some z' ∧ mQF z0 k p (M + 1) z' := by
  obtain ⟨h1, h2, h3, ⟨m, h4, h5⟩, h6⟩ := h
  unfold m_qCode
  refine ⟨wI (wA z 93 m x) 94 (nI (m + 1)), ?_, ?_⟩
  · rw [h4, ck_t (inb_nI (by show _ < 1700; omega) (by decide)), nm_s, nm_s, nI_c (show m < 2 ^ 31 by omega), mI_wA, h4, nI_1]
  · exact ⟨by rw [mI_ne _ (by decide)]; exact h1, by rw [mI_ne _ (by decide)]; exact h2, h3, ⟨m + 1, mI_eq _ _ _, by omega⟩, h6.tr ((mQf.arr z (by decide) _ _).tr (mQf.int _ (by decide) _))⟩
/-- the stack's top -/
theorem mQ.top {x : Int32} (h : mQ n b q z0 i (x :: σ) C d bs z) (hl : σ.length < 1699) : mI z 96 - 1 = nI σ.length ∧ inb (nI σ.length) (mN 95) = true ∧ (nI σ.length).toNatClampNeg = σ.length ∧ mA z 95 σ.length = x := by
  obtain ⟨-, -, -, ⟨-, -, k3, k4, -⟩, -⟩ := h
  refine ⟨?_, inb_nI (by show _ < 1700; omega) (by decide), nI_c (by omega), ?_⟩
  · rw [k3]
    show nI (σ.length + 1) - 1 = _
    rw [nI_pred]
  · rw [k4 σ.length (by simp)]
    simp [List.getD]
theorem opn_cons (x : Int32) (σ : List Int32) : opn (x :: σ) = if x < 12 then opn σ else opn σ + 1 := by
  unfold opn
  rw [List.filter_cons]
  by_cases c : x < 12
  · rw [if_neg (by simp [c]), if_pos c]
  · rw [if_pos (by simp [c]), if_neg c]
    rfl
/-- a push; d' the depth after -/
theorem mQ.push (h : mQ n b q z0 i σ C d bs z) (hl : σ.length < 1700) (x : Int32) {z' : MS} (hz : z' = wI (wA z 95 σ.length x) 96 (nI (σ.length + 1))) (hx : x < 12) : mQ n b q z0 i (x :: σ) C d bs z' := by
  subst hz
  obtain ⟨h1, h2, h3, ⟨k1, k2, k3, k4, k5, k6, k7, k8⟩, h4⟩ := h
  refine ⟨h1.oth ?_ ?_, ?_, ?_, ⟨?_, ?_, ?_, ?_, ?_, ?_, ?_, k8⟩, h4.tr ((mQf.arr z (by decide) _ _).tr (mQf.int _ (by decide) _))⟩
  · exact mA_wne z (by decide) _ _
  · intro a ha
    exact mI_ne _ (by omega) _
  · rw [mI_ne _ (by decide)]; exact h2
  · rw [mI_ne _ (by decide)]; exact h3
  · rw [mI_ne _ (by decide)]; exact k1
  · intro i hi
    show mA (wA z 95 σ.length x) 93 i = _
    rw [mA_wne z (by decide)]
    exact k2 i hi
  · exact mI_eq _ _ _
  · intro i hi
    have hi : i < σ.length + 1 := hi
    show mA (wA z 95 σ.length x) 95 i = _
    rw [mA_w]
    by_cases c : i = σ.length
    · rw [if_pos c, c]
      simp [List.getD]
    · rw [if_neg c, k4 i (by omega)]
      rw [show (x :: σ).length - 1 - i = (σ.length - 1 - i) + 1 by show σ.length + 1 - 1 - i = _; omega]
      rfl
  · rw [mI_ne _ (by decide)]; exact k5
  · rw [mI_ne _ (by decide)]; exact k6
  · rw [opn_cons, if_pos hx]; exact k7
/-- the top changed into y -/
theorem mQ.put {x : Int32} (h : mQ n b q z0 i (x :: σ) C d bs z) (y : Int32) (hxy : (x < 12) = (y < 12)) : mQ n b q z0 i (y :: σ) C d bs (wA z 95 σ.length y) := by
  obtain ⟨h1, h2, h3, ⟨k1, k2, k3, k4, k5, k6, k7, k8⟩, h4⟩ := h
  refine ⟨h1.oth (mA_wne z (by decide) _ _) (fun a ha => rfl), h2, h3, ⟨k1, ?_, k3, ?_, k5, k6, ?_, k8⟩, h4.tr (mQf.arr z (by decide) _ _)⟩
  · intro i hi
    rw [mA_wne z (by decide)]
    exact k2 i hi
  · intro i hi
    have hi : i < σ.length + 1 := hi
    rw [mA_w]
    by_cases c : i = σ.length
    · rw [if_pos c, c]
      simp [List.getD]
    · rw [if_neg c, k4 i hi]
      have e : ∀ u : Int32, (u :: σ).length - 1 - i = (σ.length - 1 - i) + 1 := fun u => by show σ.length + 1 - 1 - i = _; omega
      rw [e x, e y]
      rfl
  · rw [opn_cons] at k7 ⊢
    by_cases c : x < 12
    · rw [if_pos c] at k7
      rw [if_pos (by rw [← hxy]; exact c)]
      exact k7
    · rw [if_neg c] at k7
      rw [if_neg (by rw [← hxy]; exact c)]
      exact k7
/-- the stack's top taken off: an operation -/
theorem mQ.pop {x : Int32} (h : mQ n b q z0 i (x :: σ) C d bs z) : mQ n b q z0 i σ C d bs (wI z 96 (nI σ.length)) := by
  obtain ⟨h1, h2, h3, ⟨k1, k2, k3, k4, k5, k6, k7, k8⟩, h4⟩ := h
  refine ⟨h1.oth rfl ?_, ?_, ?_, ⟨?_, k2, mI_eq _ _ _, ?_, ?_, ?_, ?_, k8⟩, h4.tr (mQf.int _ (by decide) _)⟩
  · intro a ha
    exact mI_ne _ (by omega) _
  · rw [mI_ne _ (by decide)]; exact h2
  · rw [mI_ne _ (by decide)]; exact h3
  · rw [mI_ne _ (by decide)]; exact k1
  · intro i hi
    have := k4 i (by show i < σ.length + 1; omega)
    rw [show (x :: σ).length - 1 - i = (σ.length - 1 - i) + 1 by show σ.length + 1 - 1 - i = _; omega] at this
    exact this
  · rw [mI_ne _ (by decide)]; exact k5
  · rw [mI_ne _ (by decide)]; exact k6
  · rw [opn_cons] at k7; split at k7 <;> omega
/-- .. an opening -/
theorem mQ.popo {x : Int32} (h : mQ n b q z0 i (x :: σ) C d bs z) (hx : ¬ x < 12) {z' : MS} (hz : z' = wI (wI z 96 (nI σ.length)) 97 (nI (d - 1)) ∨ z' = wI (wI z 97 (nI (d - 1))) 96 (nI σ.length)) : mQ n b q z0 i σ C (d - 1) bs z' ∧ 0 < d := by
  obtain ⟨h1, h2, h3, ⟨k1, k2, k3, k4, k5, k6, k7, k8⟩, h4⟩ := h
  rw [opn_cons, if_neg hx] at k7
  have ia : ∀ a, mI z' a = if a = 96 then nI σ.length else if a = 97 then nI (d - 1) else mI z a := by
    intro a
    rcases hz with rfl | rfl
    · rw [mI_w, mI_w]
      by_cases c1 : a = 97
      · rw [if_pos c1, if_neg (by omega), if_pos c1]
      · rw [if_neg c1, if_neg c1]
    · rw [mI_w, mI_w]
  have aa : ∀ a, mA z' a = mA z a := by
    intro a
    rcases hz with rfl | rfl <;> rfl
  refine ⟨⟨h1.oth (aa 0) ?_, ?_, ?_, ⟨?_, ?_, ?_, ?_, ?_, ?_, ?_, ?_⟩, ?_⟩, by omega⟩
  · intro a ha
    rw [ia, if_neg (by omega), if_neg (by omega)]
  · rw [ia]; exact h2
  · rw [ia]; exact h3
  · rw [ia]; exact k1
  · intro i hi; rw [aa]; exact k2 i hi
  · rw [ia]; rfl
  · intro i hi
    have := k4 i (by show i < σ.length + 1; omega)
    rw [show (x :: σ).length - 1 - i = (σ.length - 1 - i) + 1 by show σ.length + 1 - 1 - i = _; omega] at this
    rw [aa]
    exact this
  · rw [ia]; rfl
  · rw [ia]; exact k6
  · omega
  · omega
  · refine h4.tr ?_
    rcases hz with rfl | rfl
    · exact (mQf.int _ (by decide) _).tr (mQf.int _ (by decide) _)
    · exact (mQf.int _ (by decide) _).tr (mQf.int _ (by decide) _)
/-- an operation dropped into the codes -/
theorem mQ.drops {x : Int32} (h : mQ n b q z0 i (x :: σ) C d bs z) (hC : C.length < 1700) (hl : σ.length < 1699) : ∃ z', m_qDrops z = some z' ∧ mQ n b q z0 i σ (C ++ [x]) d bs z' := by
  obtain ⟨t1, t2, t3, t4⟩ := h.top hl
  obtain ⟨z', q1, q2⟩ := h.pop.code hC x
  refine ⟨z', ?_, q2⟩
  unfold m_qDrops
  rw [nm_s, t1, mI_eq, ck_t t2, t3]
  show bnv (m_qCode (mA z 95 σ.length) _) _ = _
  rw [t4, q1, bnv_s]
/-- an opening dropped into the codes, one less open -/
theorem mQ.dropo {x : Int32} (h : mQ n b q z0 i (x :: σ) C d bs z) (hx : ¬ x < 12) (hC : C.length < 1700) (hl : σ.length < 1699) : ∃ z', m_qDrops (wI z 97 (mI z 97 - 1)) = some z' ∧ mQ n b q z0 i σ (C ++ [x]) (d - 1) bs z' := by
  obtain ⟨t1, t2, t3, t4⟩ := h.top hl
  obtain ⟨p1, p2⟩ := h.popo hx (z' := wI (wI z 97 (nI (d - 1))) 96 (nI σ.length)) (Or.inr rfl)
  obtain ⟨z', q1, q2⟩ := p1.code hC x
  refine ⟨z', ?_, q2⟩
  have k5 := h.2.2.2.1.2.2.2.2.1
  unfold m_qDrops
  rw [nm_s, k5, nI_m1 p2, mI_ne _ (show (96 : Nat) ≠ 97 by decide), t1, mI_eq, ck_t t2, t3]
  show bnv (m_qCode (mA z 95 σ.length) _) _ = _
  rw [t4, q1, bnv_s]
theorem mQ.opens (h : mQ n b q z0 i σ C d bs z) (hC : C.length ≤ 1600) (hl : σ.length < 1700) (x : Int32) (p : Nat) : (d = 6 → m_qOpens x (nI p) z = some (mFlt z 4 p)) ∧ (d ≠ 6 → ∃ z', m_qOpens x (nI p) z = some z' ∧ mQ n b q z0 i (x :: σ) C (d + 1) bs z') := by
  obtain ⟨h1, h2, h3, ⟨k1, k2, k3, k4, k5, k6, k7, k8⟩, h4⟩ := h
  have e6 : (nI d = (6 : Int32)) ↔ d = 6 := nI_eq (b := 6) (by omega) (by decide)
  unfold m_qOpens
  rw [if_pos h2, k5]
  constructor
  · intro c
    rw [if_pos (e6.mpr c), show (4 : Int32) = nI 4 from rfl, m_fail_v h2, bnv_s]
  · intro c
    refine ⟨wI (wA (wI z 97 (nI (d + 1))) 95 σ.length x) 96 (nI (σ.length + 1)), ?_, ?_⟩
    · rw [if_neg (fun q => c (e6.mp q)), nm_s, nI_1, mI_ne _ (by decide), k3, ck_t (inb_nI (by show _ < 1700; omega) (by decide)), nm_s, nm_s, nI_c (show σ.length < 2 ^ 31 by omega), mI_wA, mI_ne _ (by decide), k3, nI_1]
    · refine ⟨h1.oth ?_ ?_, ?_, ?_, ⟨?_, ?_, mI_eq _ _ _, ?_, ?_, ?_, ?_, by omega⟩, h4.tr (((mQf.int _ (by decide) _).tr (mQf.arr _ (by decide) _ _)).tr (mQf.int _ (by decide) _))⟩
      · exact mA_wne (wI z 97 (nI (d + 1))) (by decide) _ _
      · intro a ha
        rw [mI_ne _ (by omega), mI_wA, mI_ne _ (by omega)]
      · rw [mI_ne _ (by decide), mI_wA, mI_ne _ (by decide)]; exact h2
      · rw [mI_ne _ (by decide), mI_wA, mI_ne _ (by decide)]; exact h3
      · rw [mI_ne _ (by decide), mI_wA, mI_ne _ (by decide)]; exact k1
      · intro i hi
        show mA (wA (wI z 97 (nI (d + 1))) 95 σ.length x) 93 i = _
        rw [mA_wne _ (by decide)]
        exact k2 i hi
      · intro i hi
        have hi : i < σ.length + 1 := hi
        show mA (wA (wI z 97 (nI (d + 1))) 95 σ.length x) 95 i = _
        rw [mA_w]
        by_cases c : i = σ.length
        · rw [if_pos c, c]
          simp [List.getD]
        · rw [if_neg c]
          show mA z 95 i = _
          rw [k4 i (by omega)]
          rw [show (x :: σ).length - 1 - i = (σ.length - 1 - i) + 1 by show σ.length + 1 - 1 - i = _; omega]
          rfl
      · rw [mI_ne _ (by decide), mI_wA, mI_eq]
      · rw [mI_ne _ (by decide), mI_wA, mI_ne _ (by decide)]; exact k6
      · rw [opn_cons]; split <;> omega
end MQ
end RE
