/-! PART 59: plain: numbers; the whole state (SG) and the Model that holds it; calls that only ask -/
set_option maxRecDepth 100000
theorem nI_div {a b : Nat} (ha : a < 2 ^ 31) (hb0 : 0 < b) (hb : b < 2 ^ 31) : nI a / nI b = nI (a / b) := by
  have hq : a / b < 2 ^ 31 := Nat.lt_of_le_of_lt (Nat.div_le_self a b) ha
  apply Int32.toInt_inj.mp
  rw [Int32.toInt_div_of_ne_right _ _ (fun q => by have := nI_toInt hb; rw [q] at this; have e : (-1 : Int32).toInt = -1 := by decide
                                                   rw [e] at this; omega), nI_toInt ha, nI_toInt hb, nI_toInt hq, Int.ofNat_tdiv]
theorem nI_sub {a b : Nat} (h : b ≤ a) : nI a - nI b = nI (a - b) := by
  have : nI a = nI (a - b) + nI b := by rw [nI_add, Nat.sub_add_cancel h]
  rw [this, Int32.add_sub_cancel]
theorem nI_mod {a b : Nat} (ha : a < 2 ^ 31) (hb0 : 0 < b) (hb : b < 2 ^ 31) : nI a - nI a / nI b * nI b = nI (a % b) := by
  rw [nI_div ha hb0 hb, nI_mul, nI_sub (Nat.div_mul_le_self a b)]
  congr 1
  have := Nat.div_add_mod a b
  rw [Nat.mul_comm] at this
  omega
theorem lN_div {a b : Nat} (ha : a < 2 ^ 31) (hb0 : 0 < b) (hb : b < 2 ^ 31) : lN a / lN b = lN (a / b) := by
  have hq : a / b < 2 ^ 31 := Nat.lt_of_le_of_lt (Nat.div_le_self a b) ha
  apply Int64.toInt_inj.mp
  rw [Int64.toInt_div_of_ne_right _ _ (fun q => by have := lN_toInt hb; rw [q] at this; have e : (-1 : Int64).toInt = -1 := by decide
                                                   rw [e] at this; omega), lN_toInt ha, lN_toInt hb, lN_toInt hq, Int.ofNat_tdiv]
theorem lN_mod {a b : Nat} (ha : a < 2 ^ 31) (hb0 : 0 < b) (hb : b < 2 ^ 31) : lN a - lN a / lN b * lN b = lN (a % b) := by
  rw [lN_div ha hb0 hb, lN_mul, lN_sub (Nat.div_mul_le_self a b)]
  congr 1
  have := Nat.div_add_mod a b
  rw [Nat.mul_comm] at this
  omega
/-- school; names; what is; what was (last first); what is heard; the tape (how much, what); how often refused; the fault; the seed; the image -/
abbrev SG : Type := SK × (Nat → Nat → List Nat) × SW × List SW × List (Nat × Nat) × (Nat × (Nat → Nat)) × (Nat → Int32) × (Int32 × Int32) × Int64 × List Nat
def gK (g : SG) : SK := g.1
def gN (g : SG) : Nat → Nat → List Nat := g.2.1
def gW (g : SG) : SW := g.2.2.1
def gU (g : SG) : List SW := g.2.2.2.1
def gH (g : SG) : List (Nat × Nat) := g.2.2.2.2.1
def gT (g : SG) : Nat := g.2.2.2.2.2.1.1
def gB (g : SG) : Nat → Nat := g.2.2.2.2.2.1.2
def gR (g : SG) : Nat → Int32 := g.2.2.2.2.2.2.1
def gFt (g : SG) : Int32 × Int32 := g.2.2.2.2.2.2.2.1
def gS (g : SG) : Int64 := g.2.2.2.2.2.2.2.2.1
def gO (g : SG) : List Nat := g.2.2.2.2.2.2.2.2.2
def kN (k : SK) (kd : Nat) : Nat := if kd = 0 then kF k else kP k
/-- a name: one to six letters -/
def nmOk (l : List Nat) : Prop := 1 ≤ l.length ∧ l.length ≤ 6 ∧ ∀ d, d ∈ l → 1 ≤ d ∧ d ≤ 26
/-- a name, last letter first, as a number -/
def nmR : List Nat → Nat
  | [] => 0
  | d :: r => 27 * nmR r + d
def nmV (l : List Nat) : Nat := nmR l.reverse
def sgOk (g : SG) : Prop := wY (gW g) ≤ 999 ∧ (∀ u, u ∈ gU g → wOk (gK g) u ∧ wY u ≤ 999) ∧ hrOk (gK g) (gH g) ∧ gT g ≤ 1600 ∧ (∀ i, i < gT g → gB g i < 256) ∧ (∀ kd i, kd < 2 → i < kN (gK g) kd → nmOk (gN g kd i)) ∧ (gO g).length ≤ 43 ∧ ∀ i, i < (gO g).length → (gO g).getD i 0 < 256
def mNm (g : SG) (z : MS) : Prop := ∀ kd i, kd < 2 → i < kN (gK g) kd → mB z 40 (16 + 8 * kd + i) = lN (nmV (gN g kd i))
def mTp (n : Nat) (b : Nat → Nat) (z : MS) : Prop := mI z 1 = nI n ∧ ∀ i, i < n → mA z 0 i = nI (b i)
def mOc (l : List Nat) (z : MS) : Prop := mI z 104 = nI l.length ∧ ∀ i, i < l.length → mA z 103 i = nI (l.getD i 0)
/-- the Model holds all that -/
def mG (g : SG) (z : MS) : Prop := sgOk g ∧ mOk (gK g) (gW g) z ∧ mRow (wK (gW g)) z ∧ mI z 58 = bI false ∧ mNm g z ∧ mUnd (gK g) (gU g) z ∧ mHr (gH g) z ∧ mTp (gT g) (gB g) z ∧ (∀ i, i < 6 → mA z 9 i = gR g i) ∧ (mI z 7 = (gFt g).1 ∧ mI z 8 = (gFt g).2) ∧ mL z 67 = gS g ∧ mOc (gO g) z
theorem mUnd.of {k : SK} {us : List SW} {z y : MS} (h : mUnd k us z) (e1 : mI y 65 = mI z 65) (e2 : mI y 66 = mI z 66) (e3 : mA y 64 = mA z 64) : mUnd k us y := by
  unfold mUnd
  rw [e1, e2, e3]
  exact h
theorem mTp.of {n : Nat} {b : Nat → Nat} {z y : MS} (h : mTp n b z) (e1 : mI y 1 = mI z 1) (e2 : mA y 0 = mA z 0) : mTp n b y := by
  unfold mTp
  rw [e1, e2]
  exact h
theorem mOc.of {l : List Nat} {z y : MS} (h : mOc l z) (e1 : mI y 104 = mI z 104) (e2 : mA y 103 = mA z 103) : mOc l y := by
  unfold mOc
  rw [e1, e2]
  exact h
theorem mG.bk {g : SG} {z y : MS} (h : mG g z) (b : mBk z y) : mG g y := by
  obtain ⟨h0, h1, h2, h3, h4, h5, h6, h7, h8, h9, h10, h11⟩ := h
  have eI : ∀ a, a ≠ 52 → a ≠ 55 → a ≠ 59 → a ≠ 100 → mI y a = mI z a := b.1
  have eA : ∀ a, a ≠ 54 → a ≠ 56 → a ≠ 57 → a ≠ 62 → a ≠ 63 → mA y a = mA z a := b.2.2.1
  refine ⟨h0, b.ok h1, b.row h2, by rw [eI 58 (by decide) (by decide) (by decide) (by decide), h3], ?_, h5.of (eI 65 (by decide) (by decide) (by decide) (by decide)) (eI 66 (by decide) (by decide) (by decide) (by decide)) (eA 64 (by decide) (by decide) (by decide) (by decide) (by decide)), b.hr h6, h7.of (eI 1 (by decide) (by decide) (by decide) (by decide)) (eA 0 (by decide) (by decide) (by decide) (by decide) (by decide)), ?_, ?_, ?_, h11.of (eI 104 (by decide) (by decide) (by decide) (by decide)) (eA 103 (by decide) (by decide) (by decide) (by decide) (by decide))⟩
  · intro kd i hk hi
    rw [b.2.2.2 40 (by decide)]
    exact h4 kd i hk hi
  · rw [eA 9 (by decide) (by decide) (by decide) (by decide) (by decide)]
    exact h8
  · rw [eI 7 (by decide) (by decide) (by decide) (by decide), eI 8 (by decide) (by decide) (by decide) (by decide)]
    exact h9
  · show y.2.1 67 = _
    rw [b.2.1]
    exact h10
/-! calls that only ask -/
def spHas (g : SG) (a : Int32) : Int32 :=
  if a = 0 then nI (kF (gK g)) else if a = 1 then nI (kP (gK g)) else if a = 2 then nI (kSe (gK g) 0) else if a = 3 then nI (kSe (gK g) 1) else if a = 4 then nI (wY (gW g)) else if a = 5 then nI (pop (sWho (gW g) (kP (gK g)) 0)) else if a = 6 then nI (pop (sWho (gW g) (kP (gK g)) 1)) else if a = 7 then nI (sBel (gW g) (kP (gK g)) false)
  else if a = 8 then nI (wK (gW g)).length else if a = 9 then nI (gH g).length else if a = 10 then nI (gU g).length else -1
theorem m_has_v {g : SG} {z : MS} (h : mG g z) (a : Int32) : m_has a z = some (spHas g a, z) := by
  obtain ⟨h0, h1, h2, h3, h4, h5, h6, -⟩ := h
  have h8 := h1.1.2.1
  have sk := h1.2.2.1
  unfold m_has spHas
  by_cases c0 : a = 0
  · rw [if_pos c0, if_pos c0, c0]
    show some (mA z 39 2, z) = _
    rw [sk.1]
  rw [if_neg c0, if_neg c0]
  by_cases c1 : a = 1
  · rw [if_pos c1, if_pos c1, c1]
    show some (mA z 39 3, z) = _
    rw [sk.2.1]
  rw [if_neg c1, if_neg c1]
  by_cases c2 : a = 2
  · rw [if_pos c2, if_pos c2, c2]
    show some (mA z 46 (3 + 0), z) = _
    rw [sk.2.2.2.2.1 0 (by decide)]
  rw [if_neg c2, if_neg c2]
  by_cases c3 : a = 3
  · rw [if_pos c3, if_pos c3, c3]
    show some (mA z 46 (3 + 1), z) = _
    rw [sk.2.2.2.2.1 1 (by decide)]
  rw [if_neg c3, if_neg c3]
  by_cases c4 : a = 4
  · rw [if_pos c4, if_pos c4]
    show some (mA z 53 0, z) = _
    rw [h1.y]
  rw [if_neg c4, if_neg c4]
  by_cases c5 : a = 5
  · have e : m_thoseWho (a - 4) z = some (nI (sWho (gW g) (kP (gK g)) 0), z) := by rw [c5]; exact m_thoseWho_v h1 (b := 0) (by decide)
    rw [if_pos c5, if_pos c5, e, bnd_s, m_bits_v (sWho_lt _ _ _ h8), bnd_s]
  rw [if_neg c5, if_neg c5]
  by_cases c6 : a = 6
  · have e : m_thoseWho (a - 4) z = some (nI (sWho (gW g) (kP (gK g)) 1), z) := by rw [c6]; exact m_thoseWho_v h1 (b := 1) (by decide)
    rw [if_pos c6, if_pos c6, e, bnd_s, m_bits_v (sWho_lt _ _ _ h8), bnd_s]
  rw [if_neg c6, if_neg c6]
  by_cases c7 : a = 7
  · rw [if_pos c7, if_pos c7, m_beliefs_v h1, bnd_s]
  rw [if_neg c7, if_neg c7]
  by_cases c8 : a = 8
  · rw [if_pos c8, if_pos c8]
    show some (mA z 53 41, z) = _
    rw [h2.2.1]
  rw [if_neg c8, if_neg c8]
  by_cases c9 : a = 9
  · rw [if_pos c9, if_pos c9, h6.2.1]
  rw [if_neg c9, if_neg c9]
  by_cases c10 : a = 10
  · rw [if_pos c10, if_pos c10, h5.2.1]
  rw [if_neg c10, if_neg c10]
def spFact (g : SG) (a b : Int32) : Int32 := if sPn (kF (gK g)) a = true then (if b = 0 then nI (kWo (gK g) a.toNatClampNeg) else if b = 1 then nI (sRiM (gW g) (kP (gK g)) a.toNatClampNeg) else if b = 2 then nI (sWrM (gW g) (kP (gK g)) a.toNatClampNeg) else -1) else -1
theorem m_fact_v {g : SG} {z : MS} (h : mG g z) (a b : Int32) : m_fact a b z = some (spFact g a b, z) := by
  have h1 := h.2.1
  have hF := h1.1.1
  unfold m_fact spFact
  rw [m_isFact_s h1, bnd_s]
  cases c : sPn (kF (gK g)) a with
  | false => rfl
  | true =>
    obtain ⟨f, hf, rfl⟩ := sPn_nat c hF
    rw [if_neg (by decide), if_pos rfl, nI_c (by omega), show (8 : Int32) = nI 8 from rfl, ixk, ck_t (inb_nI (by show _ < 16; omega) (by decide)), nI_c (by omega), h1.2.2.1.2.2.1 f hf, m_rightMany_v h1 (by omega), bnd_s, m_wrongMany_v h1 (by omega), bnd_s]
    by_cases c0 : b = 0
    · rw [if_pos c0, if_pos c0]
    rw [if_neg c0, if_neg c0]
    by_cases c1 : b = 1
    · rw [if_pos c1, if_pos c1]
    rw [if_neg c1, if_neg c1]
    by_cases c2 : b = 2
    · rw [if_pos c2, if_pos c2]
    rw [if_neg c2, if_neg c2]
def b01 (b : Bool) : Int32 := if b = true then 1 else 0
def spPerson (g : SG) (a b : Int32) : Int32 := if sPn (kP (gK g)) a = true then
  (if b = 0 then nI (kCa (gK g) a.toNatClampNeg) else if b = 1 then nI (wM (gW g) a.toNatClampNeg) - 1 else if b = 2 then nI (sPup (gW g) (kP (gK g)) (a.toNatClampNeg + 1)) else if b = 3 then nI (wR (gW g) a.toNatClampNeg) else if b = 4 then nI (wW (gW g) a.toNatClampNeg) else if b = 5 then nI (wL' (gW g) a.toNatClampNeg)
   else if b = 6 then b01 ((wF (gW g) a.toNatClampNeg).testBit 0) else if b = 7 then b01 ((wF (gW g) a.toNatClampNeg).testBit 1) else -1) else -1
theorem m_person_v {g : SG} {z : MS} (h : mG g z) (a b : Int32) : m_person a b z = some (spPerson g a b, z) := by
  have h1 := h.2.1
  have h8 := h1.1.2.1
  unfold m_person spPerson
  rw [m_isPerson_s h1, bnd_s]
  cases c : sPn (kP (gK g)) a with
  | false => rfl
  | true =>
    obtain ⟨p, hp, rfl⟩ := sPn_nat c h8
    have e2 := m_pupilsOf_v h1 (m := p + 1) (by omega)
    rw [nI_pred] at e2
    rw [if_neg (by decide), if_pos rfl, nI_c (by omega), show (8 : Int32) = nI 8 from rfl, ixk, ck_t (inb_nI (by show _ < 16; omega) (by decide)), nI_c (by omega), h1.2.2.1.2.2.2.1 p hp, m_masterOf_v h1 hp, bnd_s, e2, bnd_s, m_rightOf_v h1 hp, bnd_s, m_wrongOf_v h1 hp, bnd_s, m_leftOf_v h1 hp, bnd_s, m_hasPassed_v h1 hp, bnd_s, m_isDoctor_v h1 hp, bnd_s]
    have eb : ∀ t : Bool, (if bI t = 0 then some ((0 : Int32), z) else some (1, z)) = some (b01 t, z) := fun t => by cases t <;> rfl
    rw [eb, eb]
    by_cases c0 : b = 0
    · rw [if_pos c0, if_pos c0]
    rw [if_neg c0, if_neg c0]
    by_cases c1 : b = 1
    · rw [if_pos c1, if_pos c1]
    rw [if_neg c1, if_neg c1]
    by_cases c2 : b = 2
    · rw [if_pos c2, if_pos c2]
    rw [if_neg c2, if_neg c2]
    by_cases c3 : b = 3
    · rw [if_pos c3, if_pos c3]
    rw [if_neg c3, if_neg c3]
    by_cases c4 : b = 4
    · rw [if_pos c4, if_pos c4]
    rw [if_neg c4, if_neg c4]
    by_cases c5 : b = 5
    · rw [if_pos c5, if_pos c5]
    rw [if_neg c5, if_neg c5]
    by_cases c6 : b = 6
    · rw [if_pos c6, if_pos c6]
    rw [if_neg c6, if_neg c6]
    by_cases c7 : b = 7
    · rw [if_pos c7, if_pos c7]
    rw [if_neg c7, if_neg c7]
def spMarks (g : SG) (a : Int32) : Int64 := if sPn (kP (gK g)) a = true then (sMk (gK g) (gW g) a.toNatClampNeg).toInt64 else -1000000000000000
theorem m_marks_v {g : SG} {z : MS} (h : mG g z) (a : Int32) : m_marks a z = some (spMarks g a, z) := by
  have h1 := h.2.1
  have h8 := h1.1.2.1
  unfold m_marks spMarks
  rw [m_isPerson_s h1, bnd_s]
  cases c : sPn (kP (gK g)) a with
  | false => rfl
  | true =>
    obtain ⟨p, hp, rfl⟩ := sPn_nat c h8
    rw [if_neg (by decide), if_pos rfl, nI_c (by omega), m_marksOf_v h1 hp, bnd_s]
def spNext (g : SG) (a : Int32) : Int32 := if sPn (kP (gK g)) a = true then nI (sNext (gK g) (gW g) a.toNatClampNeg) - 1 else -1
theorem m_next_v {g : SG} {z : MS} (h : mG g z) (a : Int32) : Ok (m_next a z) (fun r => r.1 = spNext g a ∧ mG g r.2) := by
  have h1 := h.2.1
  have h8 := h1.1.2.1
  unfold m_next spNext
  rw [m_isPerson_s h1, bnd_s]
  cases c : sPn (kP (gK g)) a with
  | false => exact Ok.of ⟨rfl, h⟩
  | true =>
    obtain ⟨p, hp, rfl⟩ := sPn_nat c h8
    obtain ⟨y, e1, e2⟩ := m_taughtNext_v h1 hp
    rw [if_neg (by decide), if_pos rfl, nI_c (by omega), e1, bnd_s]
    exact Ok.of ⟨rfl, h.bk e2.bk⟩
def spKept (g : SG) (a b : Int32) : Int32 := if sPn (wK (gW g)).length a = true ∧ sIn b 0 2 = true then nI (if b = 0 then ((wK (gW g)).getD a.toNatClampNeg (0, 0, 0)).1 else if b = 1 then ((wK (gW g)).getD a.toNatClampNeg (0, 0, 0)).2.1 else ((wK (gW g)).getD a.toNatClampNeg (0, 0, 0)).2.2) else -1
theorem sIn_pn {a : Int32} {n : Nat} : sIn a 0 ((n : Int) - 1) = sPn n a := by
  unfold sIn sPn
  by_cases c : 0 ≤ a.toInt ∧ a.toInt < n
  · rw [decide_eq_true c, decide_eq_true (by omega)]
  · rw [decide_eq_false c, decide_eq_false (by omega)]
theorem m_kept_v {g : SG} {z : MS} (h : mG g z) (a b : Int32) : m_kept a b z = some (spKept g a b, z) := by
  obtain ⟨h0, h1, h2, -⟩ := h
  have l30 := h2.1
  unfold m_kept spKept
  have e41 : (Int32.toInt64 (mA z 53 (Int32.toNatClampNeg 41) - 1)).toInt = ((wK (gW g)).length : Int) - 1 := by
    rw [show (Int32.toNatClampNeg 41) = 41 from by decide, h2.2.1, Int32.toInt_toInt64]
    have : ∀ n, n ≤ 30 → (nI n - 1).toInt = (n : Int) - 1 := by decide +kernel
    exact this _ l30
  rw [m_isIn_i, bnd_s, e41, show (0 : Int64).toInt = 0 from by decide, sIn_pn]
  simp only [jn_s]
  cases c : sPn (wK (gW g)).length a with
  | false =>
    rw [if_pos (by decide), if_neg (by simp)]
  | true =>
    rw [if_neg (by decide), m_isIn_i, bnd_s, show (0 : Int64).toInt = 0 from by decide, show (2 : Int64).toInt = 2 from by decide]
    cases c2 : sIn b 0 2 with
    | false =>
      rw [if_pos (by decide), if_neg (by simp)]
    | true =>
      have : ∃ p, p < (wK (gW g)).length ∧ a = nI p := by
        have := of_decide_eq_true c
        refine ⟨a.toInt.toNat, by omega, ?_⟩
        apply Int32.toInt_inj.mp
        rw [nI_toInt (by omega)]
        omega
      obtain ⟨i, hi, rfl⟩ := this
      obtain ⟨m, rfl, -, hm⟩ := sIn_nat c2 (by decide) (by decide)
      obtain ⟨e1, e2, e3⟩ := h2.2.2 i hi
      have hix : (42 : Int32) + 3 * nI i + nI m = nI (42 + 3 * i + m) := by rw [show (42 : Int32) = nI 42 from rfl, show (3 : Int32) = nI 3 from rfl, nI_mul, nI_add, nI_add]
      rw [if_neg (by decide), if_pos ⟨rfl, rfl⟩, hix, ck_t (inb_nI (by show _ < 132; omega) (by decide)), nI_c (by omega), nI_c (by omega)]
      rcases (show m = 0 ∨ m = 1 ∨ m = 2 by omega) with rfl | rfl | rfl
      · rw [Nat.add_zero, e1, if_pos (by decide)]
      · rw [e2, if_neg (by decide), if_pos (by decide)]
      · rw [e3, if_neg (by decide), if_neg (by decide)]
def spStatus (g : SG) (a : Int32) : Int32 := if sIn a 0 5 = true then gR g a.toNatClampNeg else -1
theorem m_status_v {g : SG} {z : MS} (h : mG g z) (a : Int32) : m_status a z = some (spStatus g a, z) := by
  have h8 := h.2.2.2.2.2.2.2.2.1
  unfold m_status spStatus
  rw [m_isIn_i, bnd_s, show (0 : Int64).toInt = 0 from by decide, show (5 : Int64).toInt = 5 from by decide]
  cases c : sIn a 0 5 with
  | false => rfl
  | true =>
    obtain ⟨m, rfl, -, hm⟩ := sIn_nat c (by decide) (by decide)
    rw [if_neg (by decide), if_pos rfl, ck_t (inb_nI (by show _ < 6; omega) (by decide)), nI_c (by omega), h8 m (by omega)]
def spFault (g : SG) (a : Int32) : Int32 := if a = 0 then (gFt g).1 else if a = 1 then (gFt g).2 else -1
theorem m_fault_v {g : SG} {z : MS} (h : mG g z) (a : Int32) : m_fault a z = some (spFault g a, z) := by
  have h9 := h.2.2.2.2.2.2.2.2.2.1
  unfold m_fault spFault
  by_cases c0 : a = 0
  · rw [if_pos c0, if_pos c0, h9.1]
  rw [if_neg c0, if_neg c0]
  by_cases c1 : a = 1
  · rw [if_pos c1, if_pos c1, h9.2]
  rw [if_neg c1, if_neg c1]
def spOctet (g : SG) (a : Int32) : Int32 := if sPn (gO g).length a = true then nI ((gO g).getD a.toNatClampNeg 0) else -1
theorem m_octet_v {g : SG} {z : MS} (h : mG g z) (a : Int32) : m_octet a z = some (spOctet g a, z) := by
  have ho := h.2.2.2.2.2.2.2.2.2.2.2
  have l43 := h.1.2.2.2.2.2.2.1
  unfold m_octet spOctet sPn
  simp only [jn_s]
  by_cases c0 : a < 0
  · have := Int32.lt_iff_toInt_lt.mp c0
    have e0 : (0 : Int32).toInt = 0 := by decide
    rw [if_pos c0, decide_eq_false (by omega), if_neg (by decide)]
  · obtain ⟨j, hj, rfl⟩ := nI_of c0
    rw [if_neg c0, ho.1, nI_toInt hj]
    by_cases c1 : (gO g).length ≤ j
    · rw [if_pos (nI_le c1 hj), decide_eq_false (by omega), if_neg (by decide)]
    · rw [if_neg (nI_ge (by omega) (by omega)), decide_eq_true (by omega), if_pos rfl, ck_t (inb_nI (by show _ < 43; omega) (by decide)), nI_c hj, ho.2 j (by omega)]
