/-! PART 42: plain: what sums and tests tell (trees against the stack machine) -/
set_option maxRecDepth 100000
theorem sClip_toInt (v : Int64) : (sClip v).toInt = if v.toInt ≤ 1000000 then (if -1000000 ≤ v.toInt then v.toInt else -1000000) else 1000000 := by
  have e1 : (1000000 : Int64).toInt = 1000000 := by decide
  have e2 : (-1000000 : Int64).toInt = -1000000 := by decide
  unfold sClip
  by_cases c1 : v ≤ 1000000
  · have q1 := Int64.le_iff_toInt_le.mp c1
    rw [e1] at q1
    rw [if_pos c1, if_pos q1]
    by_cases c2 : -1000000 ≤ v
    · have q2 := Int64.le_iff_toInt_le.mp c2
      rw [e2] at q2
      rw [if_pos c2, if_pos q2]
    · have q2 := mt Int64.le_iff_toInt_le.mpr c2
      rw [e2] at q2
      rw [if_neg c2, if_neg q2, e2]
  · have q1 := mt Int64.le_iff_toInt_le.mpr c1
    rw [e1] at q1
    rw [if_neg c1, if_neg q1, e1]
def bd (v : Int64) : Prop := -1000000 ≤ v.toInt ∧ v.toInt ≤ 1000000
theorem sClip_bd (v : Int64) : bd (sClip v) := by
  unfold bd
  rw [sClip_toInt]
  split
  · split <;> omega
  · omega
theorem sClip_id {v : Int64} (h : bd v) : sClip v = v := by
  apply Int64.toInt_inj.mp
  rw [sClip_toInt, if_pos h.2, if_pos h.1]
theorem held_v (v : Int64) (h : PH) : fX0_held v h = some (sClip v, h) := by
  have e1 : (1000000 : Int64).toInt = 1000000 := by decide
  have e2 : (-1000000 : Int64).toInt = -1000000 := by decide
  unfold fX0_held fJ12_min_2 fJ12_max_2
  have fin : ∀ r : Int64, r.toInt = (sClip v).toInt → some (r, h) = some (sClip v, h) := fun r hr => by rw [Int64.toInt_inj.mp hr]
  by_cases c1 : v < 1000000
  · have q1 := Int64.lt_iff_toInt_lt.mp c1
    rw [if_pos c1, bnd_s]
    by_cases c2 : -1000000 < v
    · have q2 := Int64.lt_iff_toInt_lt.mp c2
      rw [if_pos c2, bnd_s]
      apply fin
      rw [sClip_toInt, if_pos (by omega), if_pos (by omega)]
    · have q2 := mt Int64.lt_iff_toInt_lt.mpr c2
      rw [if_neg c2, bnd_s]
      apply fin
      rw [sClip_toInt, if_pos (by omega), e2]
      split <;> omega
  · have q1 := mt Int64.lt_iff_toInt_lt.mpr c1
    rw [if_neg c1, bnd_s, if_pos (by decide), bnd_s]
    apply fin
    rw [sClip_toInt, e1]
    split
    · split <;> omega
    · rfl
theorem ge0_msb (x : Int64) : 0 ≤ x ↔ x.toBitVec.msb = false := by
  rw [Int64.le_iff_toInt_le, BitVec.msb_eq_toInt]
  have e0 : (0 : Int64).toInt = 0 := by decide
  have e1 : x.toBitVec.toInt = x.toInt := rfl
  rw [e0, e1]
  constructor
  · intro q
    exact decide_eq_false (by omega)
  · intro q
    have := of_decide_eq_false q
    omega
theorem xor_sign (a b : Int64) : 0 ≤ a ^^^ b ↔ decide (0 ≤ a) = decide (0 ≤ b) := by
  rw [ge0_msb, show (a ^^^ b).toBitVec = a.toBitVec ^^^ b.toBitVec from rfl, BitVec.msb_xor]
  have h1 := ge0_msb a
  have h2 := ge0_msb b
  cases c1 : a.toBitVec.msb with
  | false =>
    rw [decide_eq_true (h1.mpr c1)]
    cases c2 : b.toBitVec.msb with
    | false => rw [decide_eq_true (h2.mpr c2)]; decide
    | true => rw [decide_eq_false (fun q => by rw [h2.mp q] at c2; cases c2)]; decide
  | true =>
    rw [decide_eq_false (fun q => by rw [h1.mp q] at c1; cases c1)]
    cases c2 : b.toBitVec.msb with
    | false => rw [decide_eq_true (h2.mpr c2)]; decide
    | true => rw [decide_eq_false (fun q => by rw [h2.mp q] at c2; cases c2)]; decide
theorem floorDiv_v {a b : Int64} (hb : b ≠ 0) (h : PH) : fJ12_floorDiv a b h = some (sFloor a b, h) := by
  unfold fJ12_floorDiv sFloor
  rw [ck_t (by simp [hb]), if_neg hb]
  have e : (a / b * b = a) ↔ a - a / b * b = 0 := by
    constructor
    · intro q
      rw [q, Int64.sub_self]
    · intro q
      have : a - a / b * b + a / b * b = a := Int64.sub_add_cancel _ _
      rw [q, Int64.zero_add] at this
      exact this
  by_cases c1 : 0 ≤ a ^^^ b
  · rw [if_pos c1]
    have c2 := (xor_sign a b).mp c1
    by_cases c3 : a - a / b * b = 0
    · rw [if_pos c3]
    · rw [if_neg c3, if_pos c2]
  · rw [if_neg c1]
    have c2 := mt (xor_sign a b).mpr c1
    by_cases c3 : a - a / b * b = 0
    · rw [if_pos (e.mpr c3), if_pos c3]
    · rw [if_neg (fun q => c3 (e.mp q)), if_neg c3, if_neg c2]
theorem sFloor_bd {a b : Int64} (ha : bd a) : bd (sFloor a b) := by
  unfold sFloor
  by_cases hb : b = 0
  · rw [if_pos hb]
    exact ⟨by decide, by decide⟩
  rw [if_neg hb]
  have hB : b.toInt ≠ 0 := fun q => hb (Int64.toInt_inj.mp (by rw [q]; decide))
  have hmin : a ≠ Int64.minValue := fun q => by
    have := ha.1
    rw [q] at this
    have e : (Int64.minValue).toInt = -9223372036854775808 := by decide
    omega
  have hq : (a / b).toInt = a.toInt.tdiv b.toInt := Int64.toInt_div_of_ne_left a b hmin
  have hqa : (a / b).toInt.natAbs = a.toInt.natAbs / b.toInt.natAbs := by rw [hq, Int.natAbs_tdiv]; rfl
  have hle : a.toInt.natAbs / b.toInt.natAbs ≤ a.toInt.natAbs := Nat.div_le_self _ _
  have hA : a.toInt.natAbs ≤ 1000000 := by
    have := ha.1
    have := ha.2
    omega
  have hbd : bd (a / b) := by
    unfold bd
    omega
  by_cases c1 : a - a / b * b = 0
  · rw [if_pos c1]; exact hbd
  · rw [if_neg c1]
    split
    · exact hbd
    · by_cases h1 : b.toInt.natAbs = 1
      · exfalso
        rcases (show b.toInt = 1 ∨ b.toInt = -1 by omega) with e | e
        · have eb : b = 1 := Int64.toInt_inj.mp (by rw [e]; decide)
          have : a / b = a := Int64.toInt_inj.mp (by rw [hq, e, Int.tdiv_one])
          exact c1 (by rw [this, eb, Int64.mul_one, Int64.sub_self])
        · have eb : b = -1 := Int64.toInt_inj.mp (by rw [e]; decide)
          have en : (-a).toInt = -a.toInt := by
            rw [Int64.toInt_neg]
            apply Int.bmod_eq_of_le <;> omega
          have : a / b = -a := Int64.toInt_inj.mp (by
            rw [hq, e, en, Int.tdiv_neg, Int.tdiv_one])
          exact c1 (by rw [this, eb, Int64.neg_mul_neg, Int64.mul_one, Int64.sub_self])
      · have h2 : a.toInt.natAbs / b.toInt.natAbs ≤ a.toInt.natAbs / 2 := Nat.div_le_div_left (by omega) (by decide)
        have e : (a / b - 1).toInt = (a / b).toInt - 1 := by
          rw [Int64.toInt_sub]
          have e1 : (1 : Int64).toInt = 1 := by decide
          rw [e1]
          apply Int.bmod_eq_of_le <;> omega
        unfold bd
        rw [e]
        omega
theorem sRun_app (P : Nat → Int64) (B : Int64 → Int64) : ∀ (c1 c2 : List Int32) (st : List Int64), sRun P B (c1 ++ c2) st = match sRun P B c1 st with
    | some st1 => sRun P B c2 st1
    | none => none
  | [], c2, st => rfl
  | c :: c1, c2, st => by
    show (match sStep P B c st with
      | some st1 => sRun P B (c1 ++ c2) st1
      | none => none) = match (match sStep P B c st with
      | some st1 => sRun P B c1 st1
      | none => none) with
      | some st1 => sRun P B c2 st1
      | none => none
    cases sStep P B c st with
    | none => rfl
    | some st1 => exact sRun_app P B c1 c2 st1
theorem sRun_then {P : Nat → Int64} {B : Int64 → Int64} {c1 c2 : List Int32} {st st1 : List Int64} (h : sRun P B c1 st = some st1) : sRun P B (c1 ++ c2) st = sRun P B c2 st1 := by
  rw [sRun_app, h]
theorem sRun_one {P : Nat → Int64} {B : Int64 → Int64} {c : Int32} {st st1 : List Int64} (h : sStep P B c st = some st1) : sRun P B [c] st = some st1 := by
  show (match sStep P B c st with
    | some st1 => sRun P B [] st1
    | none => none) = _
  rw [h]
  rfl
theorem sStep_num (P : Nat → Int64) (B : Int64 → Int64) {m : Nat} (h : m ≤ 9999) (st : List Int64) : sStep P B (nI (1000 + m)) st = some ((nI m).toInt64 :: st) := by
  unfold sStep
  rw [if_neg (show ¬ nI (1000 + m) < (1000 : Int32) from nI_nlt (b := 1000) (by omega) (by omega))]
  have : nI (1000 + m) - 1000 = nI m := by
    rw [Nat.add_comm, ← nI_add]
    exact Int32.add_sub_cancel _ _
  rw [this]
theorem sStep_part (P : Nat → Int64) (B : Int64 → Int64) {j : Nat} (h : j < 12) (st : List Int64) : sStep P B (nI (40 + j)) st = some (P j :: st) := by
  unfold sStep
  rw [if_pos (show nI (40 + j) < (1000 : Int32) from nI_lt (b := 1000) (by omega) (by decide)), if_pos (show nI (40 + j) < (60 : Int32) from nI_lt (b := 60) (by omega) (by decide)), if_neg (show ¬ nI (40 + j) < (40 : Int32) from nI_nlt (b := 40) (by omega) (by omega))]
  have : nI (40 + j) - 40 = nI j := by
    rw [Nat.add_comm, ← nI_add]
    exact Int32.add_sub_cancel _ _
  rw [this, nI_c (by omega)]
theorem sStep_join (P : Nat → Int64) (B : Int64 → Int64) {c : Int32} (h : c = 1 ∨ c = 2 ∨ c = 3 ∨ c = 4 ∨ c = 5 ∨ c = 6 ∨ c = 7 ∨ c = 8 ∨ c = 9 ∨ c = 10 ∨ c = 11) (a b : Int64) (st : List Int64) : sStep P B c (b :: a :: st) = some (sJoin c a b :: st) := by
  unfold sStep
  rcases h with rfl | rfl | rfl | rfl | rfl | rfl | rfl | rfl | rfl | rfl | rfl <;> rfl
theorem sStep_of (P : Nat → Int64) (B : Int64 → Int64) (a : Int64) (st : List Int64) : sStep P B 60 (a :: st) = some (B a :: st) := rfl
theorem sStep_not (P : Nat → Int64) (B : Int64 → Int64) (a : Int64) (st : List Int64) : sStep P B 12 (a :: st) = some ((1 - a) :: st) := rfl
theorem sStep_all (P : Nat → Int64) (B : Int64 → Int64) (st : List Int64) : sStep P B 13 st = some (1 :: st) := rfl
theorem sJoin_5 (a b : Int64) : sJoin 5 a b = if b ≤ a then b else a := by
  unfold sJoin
  rw [if_neg (by decide), if_neg (by decide), if_neg (by decide), if_neg (by decide), if_pos rfl]
theorem sJoin_6 (a b : Int64) : sJoin 6 a b = if a ≤ b then b else a := by
  unfold sJoin
  rw [if_neg (by decide), if_neg (by decide), if_neg (by decide), if_neg (by decide), if_neg (by decide), if_pos rfl]
/-! signs -/
theorem shr0 (x : Int32) : x >>> ((0 : Int32) &&& 31) = x := by
  apply Int32.toBitVec_inj.mp
  show (x.toBitVec).sshiftRight' _ = _
  simp [BitVec.sshiftRight']
theorem chr_v : ∀ s, s < 128 → ((Int32.toUInt32 (nI s &&& 255) % 65536).toInt32) = nI s ∧ vp_nar .char (nI s) = nI s := by decide +kernel
theorem sb_charAt {D : PD} {P : Nat → Prop} {h : PH} {sb : Nat} {sg : Nat → Nat} {n : Nat} (hD : ∃ q, dS D 7 = va_rf q) (g : sbP P h sb sg n) {i : Nat} (hi : i < n) (h128 : sg i < 128) : pCls h sb = some 23 ∧ fJ15_charAt D sb (nI i) h = some (nI (sg i), h) := by
  obtain ⟨q, hq⟩ := hD
  obtain ⟨-, b1, b2, x, ba, ln, f, -, g2, g3, g4, g5, g6⟩ := g
  refine ⟨pCls_of g2, ?_⟩
  obtain ⟨c1, c2⟩ := chr_v (sg i) h128
  unfold fJ15_charAt fJ14_charAt
  rw [pCls_of g2, ckc_s, pF_of (k := 1) g2 rfl, vI_s, pF_of (k := 0) g2 rfl, vA_s, pF_of (k := 3) g2 rfl, vI_s, pArr_of g3, ob_s]
  unfold fJ12_min
  rw [shr0, if_neg (nI_nlt g4 (by omega)), bnd_s]
  unfold fJ6_checkIndex fJ8_checkIndex
  rw [hq, vQ_s, jn_s, if_neg (nI_pos (show i < 2 ^ 31 by omega)), if_pos (nI_lt hi (by omega)), bnd_s, bnv_s, if_pos rfl, pLd_of g3 (show i < ln by omega) (by omega), ob_s, g6 i hi, c1, ck_t (by rw [c2]; exact decide_eq_true rfl), bnd_s, ck_t (by rw [c2]; exact decide_eq_true rfl)]
theorem vT_cls {P : Nat → Prop} {B : Nat} {h : PH} : ∀ {n a : Nat} {c : List Int32}, vT P B n h a c → isVal (pCls h a) = true
  | 0, a, c, g => g.elim
  | n + 1, a, c, g => by
    rcases g.2 with ⟨b, m, -, g1, -⟩ | ⟨b, j, -, g1, -⟩ | ⟨b, mo, a1, a2, c1, c2, g1, -⟩ | ⟨b, a1, c1, g1, -⟩ | ⟨b, al, sb, m, ads, sg, cs, g1, -⟩ <;> (rw [pCls_of g1]; rfl)
theorem tT_cls {P : Nat → Prop} {B : Nat} {h : PH} : ∀ {n a : Nat} {c : List Int32}, tT P B n h a c → isTst (pCls h a) = true
  | 0, a, c, g => g.elim
  | n + 1, a, c, g => by
    rcases g.2 with ⟨b, g1, -⟩ | ⟨b, a1, c1, g1, -⟩ | ⟨b, a1, a2, s, c1, c2, g1, -⟩ | ⟨b, all, al, m, ads, cs, g1, -⟩ <;> (rw [pCls_of g1]; rfl)
/-- a Moment at mo: what is asked -/
def moP (h : PH) (mo : Nat) (V : Nat → Int64) : Prop := ∃ ma, pF h mo 4 0 = some (.ref ma) ∧ ∀ j, j < 12 → pLdJ h ma 1 (nI j) = some (V j)
theorem num_bd {m : Nat} (h : m ≤ 9999) : bd (nI m).toInt64 := by
  unfold bd
  rw [Int32.toInt_toInt64, nI_toInt (by omega)]
  omega
theorem two_v {s : Nat} {a b : Int64} (hs : s = 42 ∨ s = 43 ∨ s = 45 ∨ s = 47) (ha : bd a) (h : PH) : bnd (fX14_two (nI s) a b h) (fun r5 h8 => fX0_held r5 h8) = some (sJoin (opC s) a b, h) := by
  unfold fX14_two
  rcases hs with rfl | rfl | rfl | rfl
  · rw [if_pos (by decide), bnd_s, held_v]
    rfl
  · rw [if_neg (by decide), if_pos (by decide), bnd_s, held_v]
    rfl
  · rw [if_neg (by decide), if_neg (by decide), if_neg (by decide), if_pos (by decide), bnd_s, held_v]
    rfl
  · rw [if_neg (by decide), if_neg (by decide), if_neg (by decide), if_neg (by decide)]
    show _ = some (sFloor a b, h)
    by_cases hb : b = 0
    · rw [if_pos hb, bnd_s, held_v]
      have : sFloor a b = 0 := by unfold sFloor; rw [if_pos hb]
      rw [this, sClip_id ⟨by decide, by decide⟩]
    · rw [if_neg hb, floorDiv_v hb, bnd_s, bnd_s, held_v, sClip_id (sFloor_bd ha)]
theorem join_bd {s : Nat} {a b : Int64} (hs : s = 42 ∨ s = 43 ∨ s = 45 ∨ s = 47) (ha : bd a) : bd (sJoin (opC s) a b) := by
  rcases hs with rfl | rfl | rfl | rfl
  · exact sClip_bd (a * b)
  · exact sClip_bd (a + b)
  · exact sClip_bd (a - b)
  · exact sFloor_bd ha
theorem opC_1 {s : Nat} : opC s = 1 ∨ opC s = 2 ∨ opC s = 3 ∨ opC s = 4 := by
  unfold opC
  split
  · exact Or.inl rfl
  · split
    · exact Or.inr (Or.inl rfl)
    · split
      · exact Or.inr (Or.inr (Or.inl rfl))
      · exact Or.inr (Or.inr (Or.inr rfl))
section TV
variable {D : PD} {P : Nat → Prop} {B : Nat} {h : PH} {mo : Nat} {V : Nat → Int64} {L : Int64 → Int64}
theorem vT_at (hD : ∃ q, dS D 7 = va_rf q) (hm : moP h mo V) (hL : ∀ x, fX0_looked B 0 x h = some (L x, h)) (hB : pCls h B = some 0) : ∀ (n : Nat) {a : Nat} {c : List Int32}, vT P B n h a c → ∀ m, n ≤ m → ∃ v, vAt D m a mo h = some (v, h) ∧ bd v ∧ ∀ st, sRun (fun j => sClip (V j)) (fun x => sClip (L x)) c st = some (v :: st) := by
  intro n
  induction n with
  | zero => intro a c g; exact g.elim
  | succ n ih0 =>
    intro a c g m hnm
    obtain ⟨m, rfl⟩ : ∃ q, m = q + 1 := ⟨m - 1, by omega⟩
    have ih := fun {a : Nat} {c : List Int32} (g : vT P B n h a c) => ih0 g m (by omega)
    show ∃ v, (if pCls h a = some 14 then fX14_at D (vAt D m) a mo h else if pCls h a = some 15 then fX15_at (vAt D m) a mo h else if pCls h a = some 16 then fX16_at (vAt D m) a mo h else if pCls h a = some 17 then fX17_at (vAt D m) a mo h else if pCls h a = some 18 then fX18_at (vAt D m) a mo h else none) = some (v, h) ∧ _
    rcases g.2 with ⟨b, q, hq, g1, rfl⟩ | ⟨b, j, hj, g1, rfl⟩ | ⟨b, most, a1, a2, c1, c2, g1, g2, g3, rfl⟩ | ⟨b, a1, c1, g1, g2, rfl⟩ | ⟨b, al, sb, q, ads, sg, cs, g1, g2, g3, g4, g5, rfl⟩
    · rw [pCls_of g1, if_neg (by decide), if_neg (by decide), if_pos rfl]
      refine ⟨(nI q).toInt64, ?_, num_bd hq, fun st => sRun_one (sStep_num _ _ hq st)⟩
      unfold fX16_at
      rw [pF_of (k := 0) g1 rfl, vJ_s]
    · rw [pCls_of g1, if_neg (by decide), if_neg (by decide), if_neg (by decide), if_pos rfl]
      refine ⟨sClip (V j), ?_, sClip_bd _, fun st => sRun_one (sStep_part _ _ hj st)⟩
      obtain ⟨ma, m1, m2⟩ := hm
      unfold fX17_at
      rw [m1, vA_s, pF_of (k := 0) g1 rfl, vI_s, m2 j hj, ob_s, held_v, bnd_s]
    · rw [pCls_of g1, if_neg (by decide), if_pos rfl]
      obtain ⟨v1, e1, b1, r1⟩ := ih g2
      obtain ⟨v2, e2, b2, r2⟩ := ih g3
      refine ⟨if most = true then (if v1 ≤ v2 then v2 else v1) else (if v2 ≤ v1 then v2 else v1), ?_, ?_, fun st => ?_⟩
      · unfold fX15_at
        rw [pF_of (k := 1) g1 rfl, vA_s, e1, bnd_s, pF_of (k := 2) g1 rfl, vA_s, e2, bnd_s, pF_of (k := 0) g1 rfl]
        have hz : ∀ (x : Bool) (k : Bool → Option (Int64 × PH)), vZ (some (.int (bI x))) k = k x := fun x k => by cases x <;> rfl
        rw [hz]
        simp only [jn_s]
        cases most with
        | true =>
          by_cases c : v1 ≤ v2
          · rw [if_pos c, if_neg (by decide), if_pos rfl, if_pos c]
          · rw [if_neg c, if_pos rfl, if_pos rfl, if_neg c]
        | false =>
          rw [if_neg (show ¬ false = true by decide)]
          by_cases c : v1 ≤ v2
          · rw [if_pos c, if_pos rfl]
            by_cases c' : v2 ≤ v1
            · rw [if_pos c', Int64.le_antisymm c c']
            · rw [if_neg c']
          · rw [if_neg c, if_neg (by decide)]
            have c' : v2 ≤ v1 := by
              rw [Int64.le_iff_toInt_le] at c ⊢
              omega
            rw [if_pos c']
      · split <;> split <;> assumption
      · rw [List.append_assoc, sRun_then (r1 st), sRun_then (r2 (v1 :: st))]
        cases most with
        | true => rw [if_pos rfl, if_pos rfl, sRun_one (sStep_join _ _ (by simp) v1 v2 st), sJoin_6]
        | false => rw [if_neg (by decide), if_neg (by decide), sRun_one (sStep_join _ _ (by simp) v1 v2 st), sJoin_5]
    · rw [pCls_of g1, if_neg (by decide), if_neg (by decide), if_neg (by decide), if_neg (by decide), if_pos rfl]
      obtain ⟨v1, e1, b1, r1⟩ := ih g2
      refine ⟨sClip (L v1), ?_, sClip_bd _, fun st => ?_⟩
      · unfold fX18_at
        rw [pF_of (k := 2) g1 rfl, vA_s, pF_of (k := 0) g1 rfl, vI_s, pF_of (k := 1) g1 rfl, vA_s, e1, bnd_s, hB, ckc_s, hL, bnd_s, held_v, bnd_s]
      · rw [sRun_then (r1 st)]
        exact sRun_one (sStep_of _ _ v1 st)
    · rw [pCls_of g1, if_pos rfl]
      have lq : q ≤ 100000 := by
        obtain ⟨-, x1, x2, x3, x4, ln, x6, -, -, -, x7, x8, -⟩ := g3
        omega
      have fin : Ok (fX14_at D (vAt D m) a mo h) (fun r => r.2 = h ∧ bd r.1 ∧ ∀ st, sRun (fun j => sClip (V j)) (fun x => sClip (L x)) (chC (fun i => opC (sg i)) cs q) st = some (r.1 :: st)) := by
        unfold fX14_at
        obtain ⟨v0, e0, b0, r0⟩ := ih (g5 0 (by omega)).1
        have g0 : fJ2_get al 0 h = some (some (ads 0), h) := l_get g3 (i := 0) (by omega)
        rw [pF_of (k := 0) g1 rfl, vA_s, l_cls g3, ckc_s, g0, bnd_s, qS_s, ck_t (vT_cls (g5 0 (by omega)).1), e0, bnd_s]
        refine fx_okN (F := fX14_at_L21 D a mo (vAt D m)) (z := fun _ _ _ => none) (fun s j (x : Int64) => s x (nI (1 + j)) h) (q - 1) (fun j x => bd x ∧ ∀ st, sRun (fun j => sClip (V j)) (fun x => sClip (L x)) (chC (fun i => opC (sg i)) cs (1 + j)) st = some (x :: st)) _ ?_ ?_ FU 0 v0 (Nat.zero_le _) ⟨b0, r0⟩ (FU_gt (by omega))
        · rintro s j x hj ⟨bx, rx⟩ go
          show Ok (fX14_at_L21 D a mo (vAt D m) s x (nI (1 + j)) h) _
          have hj' : 1 + j < q := by omega
          obtain ⟨vj, ej, bj, rj⟩ := ih (g5 (1 + j) hj').1
          have hsj := (g5 (1 + j) hj').2
          obtain ⟨s1, s2⟩ := sb_charAt hD g4 hj' (by omega)
          unfold fX14_at_L21
          rw [pF_of (k := 0) g1 rfl, vA_s, l_cls g3, ckc_s, l_size g3, bnd_s, if_neg (nI_ge hj' (by omega)), pF_of (k := 1) g1 rfl, vA_s, s1, ckc_s, s2, bnd_s, pF_of (k := 0) g1 rfl, vA_s, l_cls g3, ckc_s, l_get g3 hj', bnd_s, qS_s, ck_t (vT_cls (g5 (1 + j) hj').1), ej, bnd_s]
          have tv := two_v (b := vj) hsj bx h
          obtain ⟨⟨r5, h8⟩, t1, t2⟩ : ∃ r : Int64 × PH, fX14_two (nI (sg (1 + j))) x vj h = some r ∧ fX0_held r.1 r.2 = some (sJoin (opC (sg (1 + j))) x vj, h) := by
            cases ht : fX14_two (nI (sg (1 + j))) x vj h with
            | none => rw [ht] at tv; cases tv
            | some r => rw [ht] at tv; exact ⟨r, rfl, tv⟩
          have t2 : fX0_held r5 h8 = _ := t2
          rw [t1, bnd_s, t2, bnd_s, nI_1, Nat.add_assoc 1 j 1]
          refine go (sJoin (opC (sg (1 + j))) x vj) ⟨join_bd hsj bx, fun st => ?_⟩
          have ec : chC (fun i => opC (sg i)) cs (1 + (j + 1)) = chC (fun i => opC (sg i)) cs (1 + j) ++ cs (1 + j) ++ [opC (sg (1 + j))] := by
            rw [Nat.add_comm 1 (j + 1), Nat.add_comm 1 j]
            rfl
          rw [ec, List.append_assoc, sRun_then (rx st), sRun_then (rj (x :: st))]
          refine sRun_one (sStep_join _ _ ?_ x vj st)
          rcases opC_1 (s := sg (1 + j)) with e | e | e | e <;> rw [e] <;> simp
        · rintro s x ⟨bx, rx⟩
          show Ok (fX14_at_L21 D a mo (vAt D m) s x (nI (1 + (q - 1))) h) _
          rw [show 1 + (q - 1) = q by omega] at rx ⊢
          unfold fX14_at_L21
          rw [pF_of (k := 0) g1 rfl, vA_s, l_cls g3, ckc_s, l_size g3, bnd_s, if_pos (nI_le (Nat.le_refl _) (by omega))]
          exact Ok.of ⟨rfl, bx, rx⟩
      obtain ⟨⟨r, h'⟩, e, e1, e2, e3⟩ := fin
      have e1 : h' = h := e1
      subst e1
      exact ⟨r, e, e2, e3⟩
def b64 (b : Bool) : Int64 := if b = true then 1 else 0
theorem tT_at (hD : ∃ q, dS D 7 = va_rf q) (hm : moP h mo V) (hL : ∀ x, fX0_looked B 0 x h = some (L x, h)) (hB : pCls h B = some 0) : ∀ (n : Nat) {a : Nat} {c : List Int32}, tT P B n h a c → ∀ m, n ≤ m → ∃ v, vHolds D m a mo h = some (v, h) ∧ ∀ st, sRun (fun j => sClip (V j)) (fun x => sClip (L x)) c st = some (b64 v :: st) := by
  intro n
  induction n with
  | zero => intro a c g; exact g.elim
  | succ n ih0 =>
    intro a c g m hnm
    obtain ⟨m, rfl⟩ : ∃ q, m = q + 1 := ⟨m - 1, by omega⟩
    have ih := fun {a : Nat} {c : List Int32} (g : tT P B n h a c) => ih0 g m (by omega)
    show ∃ v, (if pCls h a = some 10 then fX10_holds (vHolds D m) a mo h else if pCls h a = some 11 then fX11_holds (vHolds D m) a mo h else if pCls h a = some 12 then fX12_holds (vHolds D m) a mo h else if pCls h a = some 19 then fX19_holds (vAt D m) a mo h else none) = some (v, h) ∧ _
    rcases g.2 with ⟨b, g1, rfl⟩ | ⟨b, a1, c1, g1, g2, rfl⟩ | ⟨b, a1, a2, s, c1, c2, g1, g2, g3, g4, rfl⟩ | ⟨b, all, al, q, ads, cs, g1, g2, g3, g4, rfl⟩
    · rw [pCls_of g1, if_neg (by decide), if_neg (by decide), if_pos rfl]
      exact ⟨true, rfl, fun st => sRun_one (sStep_all _ _ st)⟩
    · rw [pCls_of g1, if_neg (by decide), if_pos rfl]
      obtain ⟨v1, e1, r1⟩ := ih g2
      refine ⟨!v1, ?_, fun st => ?_⟩
      · unfold fX11_holds
        rw [pF_of (k := 0) g1 rfl, vA_s, e1, bnd_s]
        cases v1 <;> rfl
      · rw [sRun_then (r1 st), sRun_one (sStep_not _ _ _ st)]
        cases v1 <;> rfl
    · rw [pCls_of g1, if_neg (by decide), if_neg (by decide), if_neg (by decide), if_pos rfl]
      obtain ⟨v1, e1, -, r1⟩ := vT_at hD hm hL hB n g3 m (by omega)
      obtain ⟨v2, e2, -, r2⟩ := vT_at hD hm hL hB n g4 m (by omega)
      unfold fX19_holds
      rw [pF_of (k := 0) g1 rfl, vA_s, e1, bnd_s, pF_of (k := 1) g1 rfl, vA_s, e2, bnd_s, pF_of (k := 2) g1 rfl, vI_s, vI_s]
      have run : ∀ st, sRun (fun j => sClip (V j)) (fun x => sClip (L x)) (c1 ++ c2 ++ [if s = 60 then 7 else if s = 62 then 8 else 9]) st = some (sJoin (if s = 60 then 7 else if s = 62 then 8 else 9) v1 v2 :: st) := fun st => by
        rw [List.append_assoc, sRun_then (r1 st), sRun_then (r2 (v1 :: st))]
        refine sRun_one (sStep_join _ _ ?_ v1 v2 st)
        split
        · simp
        · split <;> simp
      rcases g2 with rfl | rfl | rfl
      · rw [if_pos (by decide)]
        by_cases c : v2 ≤ v1
        · rw [if_pos c]
          refine ⟨false, rfl, fun st => ?_⟩
          rw [run st]
          show some ((if v2 ≤ v1 then (0 : Int64) else 1) :: st) = _
          rw [if_pos c]; rfl
        · rw [if_neg c]
          refine ⟨true, rfl, fun st => ?_⟩
          rw [run st]
          show some ((if v2 ≤ v1 then (0 : Int64) else 1) :: st) = _
          rw [if_neg c]; rfl
      · rw [if_neg (by decide), if_neg (by decide)]
        by_cases c : v1 = v2
        · rw [if_pos c]
          refine ⟨true, rfl, fun st => ?_⟩
          rw [run st]
          show some ((if v1 = v2 then (1 : Int64) else 0) :: st) = _
          rw [if_pos c]; rfl
        · rw [if_neg c]
          refine ⟨false, rfl, fun st => ?_⟩
          rw [run st]
          show some ((if v1 = v2 then (1 : Int64) else 0) :: st) = _
          rw [if_neg c]; rfl
      · rw [if_neg (by decide), if_pos (by decide)]
        by_cases c : v1 ≤ v2
        · rw [if_pos c]
          refine ⟨false, rfl, fun st => ?_⟩
          rw [run st]
          show some ((if v1 ≤ v2 then (0 : Int64) else 1) :: st) = _
          rw [if_pos c]; rfl
        · rw [if_neg c]
          refine ⟨true, rfl, fun st => ?_⟩
          rw [run st]
          show some ((if v1 ≤ v2 then (0 : Int64) else 1) :: st) = _
          rw [if_neg c]; rfl
    · rw [pCls_of g1, if_pos rfl]
      have lq : q ≤ 100000 := by
        obtain ⟨-, x1, x2, x3, x4, ln, x6, -, -, -, x7, x8, -⟩ := g3
        omega
      have hz : ∀ (x : Bool) (k : Bool → Option (Bool × PH)), vZ (some (.int (bI x))) k = k x := fun x k => by cases x <;> rfl
      -- what the tests tell, one by one
      have val : ∀ i, i < q → ∃ v, vHolds D m (ads i) mo h = some (v, h) ∧ ∀ st, sRun (fun j => sClip (V j)) (fun x => sClip (L x)) (cs i) st = some (b64 v :: st) := fun i hi => ih (g4 i hi)
      have jn2 : ∀ a b : Bool, sJoin (if all = true then 10 else 11) (b64 a) (b64 b) = b64 (if all = true then a && b else a || b) := by
        intro a b
        cases all <;> cases a <;> cases b <;> decide
      -- from the first j on which all is told
      have tail : ∀ d j (x : Bool), j + d = q → 1 ≤ j → (∀ st, sRun (fun j => sClip (V j)) (fun x => sClip (L x)) (chC (fun _ => if all = true then 10 else 11) cs j) st = some (b64 x :: st)) → x ≠ all → ∀ st, sRun (fun j => sClip (V j)) (fun x => sClip (L x)) (chC (fun _ => if all = true then 10 else 11) cs q) st = some (b64 x :: st) := by
        intro d
        induction d with
        | zero =>
          intro j x hj h1 hx hne st
          rw [← show j = q by omega]
          exact hx st
        | succ d ihd =>
          intro j x hj h1 hx hne st
          refine ihd (j + 1) x (by omega) (by omega) (fun st => ?_) hne st
          obtain ⟨v, -, rv⟩ := val j (by omega)
          obtain ⟨j, rfl⟩ : ∃ i, j = i + 1 := ⟨j - 1, by omega⟩
          show sRun _ _ (chC (fun _ => if all = true then 10 else 11) cs (j + 1) ++ cs (j + 1) ++ [if all = true then 10 else 11]) st = _
          rw [List.append_assoc, sRun_then (hx st), sRun_then (rv (b64 x :: st))]
          rw [sRun_one (sStep_join _ _ (by cases all <;> simp) (b64 x) (b64 v) st), jn2]
          cases all <;> cases x <;> cases v <;> first | rfl | exact absurd rfl hne
      have fin : Ok (fX10_holds (vHolds D m) a mo h) (fun r => r.2 = h ∧ ∀ st, sRun (fun j => sClip (V j)) (fun x => sClip (L x)) (chC (fun _ => if all = true then 10 else 11) cs q) st = some (b64 r.1 :: st)) := by
        unfold fX10_holds
        simp only [jn_s]
        refine fx_okN (F := fX10_holds_L2 a mo (vHolds D m) _ _) (z := fun _ _ => none) (fun s j (x : Unit) => s (nI j) h) q (fun j _ => 1 ≤ j → ∀ st, sRun (fun j => sClip (V j)) (fun x => sClip (L x)) (chC (fun _ => if all = true then 10 else 11) cs j) st = some (b64 all :: st)) _ ?_ ?_ FU 0 () (Nat.zero_le _) (fun q => absurd q (by decide)) (FU_gt (by omega))
        · rintro s j - hj hI go
          show Ok (fX10_holds_L2 a mo (vHolds D m) _ _ s (nI j) h) _
          obtain ⟨v, ev, rv⟩ := val j hj
          unfold fX10_holds_L2
          rw [pF_of (k := 0) g1 rfl, vA_s, l_cls g3, ckc_s, l_size g3, bnd_s, if_neg (nI_ge hj (by omega)), pF_of (k := 0) g1 rfl, vA_s, l_cls g3, ckc_s, l_get g3 hj, bnd_s, qS_s, ck_t (tT_cls (g4 j hj)), ev, bnd_s, pF_of (k := 1) g1 rfl, hz]
          -- with this one
          have nxt : ∀ st, sRun (fun j => sClip (V j)) (fun x => sClip (L x)) (chC (fun _ => if all = true then 10 else 11) cs (j + 1)) st = some (b64 v :: st) := by
            intro st
            cases j with
            | zero => exact rv st
            | succ j =>
              show sRun _ _ (chC (fun _ => if all = true then 10 else 11) cs (j + 1) ++ cs (j + 1) ++ [if all = true then 10 else 11]) st = _
              rw [List.append_assoc, sRun_then (hI (by omega) st), sRun_then (rv (b64 all :: st))]
              rw [sRun_one (sStep_join _ _ (by cases all <;> simp) (b64 all) (b64 v) st), jn2]
              cases all <;> cases v <;> rfl
          by_cases c : v = all
          · rw [if_pos (by rw [c]), nI_1]
            refine go () (fun _ st => ?_)
            rw [nxt st, c]
          · rw [if_neg (by cases all <;> cases v <;> first | decide | exact absurd rfl c)]
            show Ok (vZ (pF h a 10 1) fun t2 => if (bI t2) = 0 then some (true, h) else some (false, h)) _
            rw [pF_of (k := 1) g1 rfl, hz]
            have tl := tail (q - (j + 1)) (j + 1) v (by omega) (by omega) nxt c
            cases all with
            | true =>
              cases v with
              | true => exact absurd rfl c
              | false =>
                rw [if_neg (by decide)]
                exact Ok.of ⟨rfl, tl⟩
            | false =>
              cases v with
              | false => exact absurd rfl c
              | true =>
                rw [if_pos (by decide)]
                exact Ok.of ⟨rfl, tl⟩
        · rintro s - hI
          show Ok (fX10_holds_L2 a mo (vHolds D m) _ _ s (nI q) h) _
          unfold fX10_holds_L2
          rw [pF_of (k := 0) g1 rfl, vA_s, l_cls g3, ckc_s, l_size g3, bnd_s, if_pos (nI_le (Nat.le_refl _) (by omega))]
          show Ok (vZ (pF h a 10 1) fun t1 => some (t1, h)) _
          rw [pF_of (k := 1) g1 rfl, hz]
          exact Ok.of ⟨rfl, hI g2⟩
      obtain ⟨⟨r, h'⟩, e, e1, e2⟩ := fin
      have e1 : h' = h := e1
      subst e1
      exact ⟨r, e, e2⟩
end TV
