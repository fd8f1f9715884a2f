/-! PART 60: plain: the Model: letter, feed, end, seed, hear -/
set_option maxRecDepth 100000
theorem nmR_lt : ∀ l : List Nat, (∀ d, d ∈ l → d ≤ 26) → nmR l < 27 ^ l.length
  | [], _ => by decide
  | d :: r, h => by
    have h1 := nmR_lt r (fun x hx => h x (List.mem_cons_of_mem _ hx))
    have h2 := h d List.mem_cons_self
    show 27 * nmR r + d < 27 ^ (r.length + 1)
    rw [Nat.pow_succ]
    omega
theorem nmR_31 {l : List Nat} (h : ∀ d, d ∈ l → d ≤ 26) (h6 : l.length ≤ 6) : nmR l < 2 ^ 31 := by
  have h1 := nmR_lt l h
  have h2 : 27 ^ l.length ≤ 27 ^ 6 := Nat.pow_le_pow_right (by decide) h6
  have h3 : (27 : Nat) ^ 6 < 2 ^ 31 := by decide
  omega
def spLetter (g : SG) (a b c : Int32) : Int32 := if sIn a 0 1 = true ∧ sPn (kN (gK g) a.toNatClampNeg) b = true ∧ sIn c 0 5 = true then nI ((gN g a.toNatClampNeg b.toNatClampNeg).getD c.toNatClampNeg 0) else -1
theorem m_letter_v {g : SG} {z : MS} (h : mG g z) (a b c : Int32) : m_letter a b c z = some (spLetter g a b c, z) := by
  have h1 := h.2.1
  have h8 := h1.1.2.1
  have hF := h1.1.1
  have fin : Ok (m_letter a b c z) (fun r => r = (spLetter g a b c, z)) := by
    unfold m_letter spLetter
    rw [m_isIn_i, bnd_s, show (0 : Int64).toInt = 0 from by decide, show (1 : Int64).toInt = 1 from by decide]
    cases c1 : sIn a 0 1 with
    | false =>
      rw [if_pos (by decide), if_neg (by simp)]
      exact Ok.of rfl
    | true =>
    obtain ⟨kd, rfl, -, hkd⟩ := sIn_nat c1 (by decide) (by decide)
    have hkN : kN (gK g) kd ≤ 8 := by unfold kN; split <;> omega
    have e39 : mA z 39 (2 + kd) = nI (kN (gK g) kd) := by
      unfold kN
      rcases (show kd = 0 ∨ kd = 1 by omega) with rfl | rfl
      · rw [if_pos rfl]; exact h1.2.2.1.1
      · rw [if_neg (by decide)]; exact h1.2.2.1.2.1
    have et : (Int32.toInt64 (nI (kN (gK g) kd) - 1)).toInt = (kN (gK g) kd : Int) - 1 := by
      rw [Int32.toInt_toInt64]
      have : ∀ n, n ≤ 8 → (nI n - 1).toInt = (n : Int) - 1 := by decide +kernel
      exact this _ hkN
    rw [if_neg (by decide), show (2 : Int32) = nI 2 from rfl, nI_add, ck_t (inb_nI (by show _ < 4; omega) (by decide)), nI_c (show 2 + kd < 2 ^ 31 by omega), e39, m_isIn_i, bnd_s, show (0 : Int64).toInt = 0 from by decide, et, sIn_pn, nI_c (show kd < 2 ^ 31 by omega)]
    cases c2 : sPn (kN (gK g) kd) b with
    | false =>
      rw [if_pos (by decide), if_neg (by simp)]
      exact Ok.of rfl
    | true =>
    obtain ⟨i, hi, rfl⟩ := sPn_nat c2 hkN
    rw [if_neg (by decide), m_isIn_i, bnd_s, show (0 : Int64).toInt = 0 from by decide, show (5 : Int64).toInt = 5 from by decide]
    cases c3 : sIn c 0 5 with
    | false =>
      rw [if_pos (by decide), if_neg (by simp)]
      exact Ok.of rfl
    | true =>
    obtain ⟨n, rfl, -, hn⟩ := sIn_nat c3 (by decide) (by decide)
    have hn : n ≤ 5 := by omega
    obtain ⟨n1, n2, n3⟩ := h.1.2.2.2.2.2.1 kd i (by omega) hi
    have e40 := h.2.2.2.2.1 kd i (by omega) hi
    have ix : (16 : Int32) + 8 * nI kd + nI i = nI (16 + 8 * kd + i) := by rw [show (16 : Int32) = nI 16 from rfl, show (8 : Int32) = nI 8 from rfl, nI_mul, nI_add, nI_add]
    rw [if_neg (by decide), if_pos ⟨rfl, rfl, rfl⟩, ix, ck_t (inb_nI (by show _ < 32; omega) (by decide)), nI_c (show 16 + 8 * kd + i < 2 ^ 31 by omega), e40, nI_c (show i < 2 ^ 31 by omega), nI_c (show n < 2 ^ 31 by omega)]
    unfold nmV
    generalize gN g kd i = l at n1 n2 n3
    have r26 : ∀ d, d ∈ l.reverse → 1 ≤ d ∧ d ≤ 26 := fun d hd => n3 d (List.mem_reverse.mp hd)
    have small : ∀ t : List Nat, (∃ m, t = l.reverse.drop m) → nmR t < 2 ^ 31 := by
      rintro t ⟨m, rfl⟩
      refine nmR_31 (fun d hd => (r26 d (List.mem_of_mem_drop hd)).2) ?_
      rw [List.length_drop, List.length_reverse]
      omega
    have d27 : ∀ t : List Nat, (∃ m, t = l.reverse.drop m) → ∀ d r, t = d :: r → lN (nmR t) / 27 = lN (nmR r) ∧ lN (nmR t) - lN (nmR t) / 27 * 27 = lN d ∧ 0 < nmR t := by
      rintro t ht d r rfl
      have hd : 1 ≤ d ∧ d ≤ 26 := by
        obtain ⟨m, hm⟩ := ht
        exact r26 d (List.mem_of_mem_drop (hm ▸ List.mem_cons_self))
      have hs := small _ ht
      have hs : 27 * nmR r + d < 2 ^ 31 := hs
      have q1 := lN_div (b := 27) hs (by decide) (by decide)
      have q2 := lN_mod (b := 27) hs (by decide) (by decide)
      rw [show (27 * nmR r + d) / 27 = nmR r by omega] at q1
      rw [show (27 * nmR r + d) % 27 = d by omega] at q2
      exact ⟨q1, q2, by show 0 < 27 * nmR r + d; omega⟩
    -- how many letters there are
    simp only [jn_s]
    refine fx_okN (F := m_letter_L67 _) (z := fun _ _ _ => none) (fun s j (_ : Unit) => s (nI j) (lN (nmR (l.reverse.drop j))) z) l.length (fun _ _ => True) _ ?_ ?_ FU 0 () (Nat.zero_le _) trivial (FU_gt (by omega))
    · rintro s j - hj - go
      show Ok (m_letter_L67 _ s (nI j) (lN (nmR (l.reverse.drop j))) z) _
      unfold m_letter_L67
      have hc : l.reverse.drop j = (l.reverse.drop j).headD 0 :: l.reverse.drop (j + 1) := by
        rw [List.drop_eq_getElem_cons (show j < l.reverse.length by rw [List.length_reverse]; exact hj)]
        rfl
      obtain ⟨q1, -, q3⟩ := d27 _ ⟨j, rfl⟩ _ _ hc
      have hs := small _ ⟨j, rfl⟩
      rw [if_neg (show ¬ lN (nmR (l.reverse.drop j)) ≤ 0 from fun q => by have := (lN_le (b := 0) hs (by decide)).mp q; omega), q1, nI_1]
      exact go () trivial
    · rintro s - -
      show Ok (m_letter_L67 _ s (nI l.length) (lN (nmR (l.reverse.drop l.length))) z) _
      have e0 : l.reverse.drop l.length = [] := by
        apply List.drop_eq_nil_of_le
        rw [List.length_reverse]
        omega
      unfold m_letter_L67
      rw [e0, if_pos (show lN (nmR []) ≤ 0 by decide)]
      by_cases cn : n < l.length
      · show Ok (if nI n < nI l.length then fx (m_letter_L102 (nI n) fun (x2 : Int64) (z5 : MS) => some ((Int64.toInt32 (x2 - x2 / 27 * 27)), z5)) (fun _ _ _ => none) FU (lN (nmR l.reverse)) (nI l.length - 1) z else some (0, z)) _
        rw [if_pos (nI_lt cn (by omega)), nI_m1 (by omega)]
        refine fx_okN (F := m_letter_L102 (nI n) _) (z := fun _ _ _ => none) (fun s j (_ : Unit) => s (lN (nmR (l.reverse.drop j))) (nI (l.length - 1 - j)) z) (l.length - 1 - n) (fun _ _ => True) _ ?_ ?_ FU 0 () (Nat.zero_le _) trivial (FU_gt (by omega))
        · rintro s2 j - hj - go
          show Ok (m_letter_L102 (nI n) _ s2 (lN (nmR (l.reverse.drop j))) (nI (l.length - 1 - j)) z) _
          unfold m_letter_L102
          have hc : l.reverse.drop j = (l.reverse.drop j).headD 0 :: l.reverse.drop (j + 1) := by
            rw [List.drop_eq_getElem_cons (show j < l.reverse.length by rw [List.length_reverse]; omega)]
            rfl
          obtain ⟨q1, -, -⟩ := d27 _ ⟨j, rfl⟩ _ _ hc
          have em : nI (l.length - 1 - j) + (-1) = nI (l.length - 1 - (j + 1)) := by
            rw [← Int32.sub_eq_add_neg, nI_m1 (by omega)]
            congr 1
          rw [if_neg (nI_ge (by omega) (by omega)), q1, em]
          exact go () trivial
        · rintro s2 - -
          show Ok (m_letter_L102 (nI n) _ s2 (lN (nmR (l.reverse.drop (l.length - 1 - n)))) (nI (l.length - 1 - (l.length - 1 - n))) z) _
          unfold m_letter_L102
          have hlt : l.length - 1 - n < l.reverse.length := by rw [List.length_reverse]; omega
          have hc : l.reverse.drop (l.length - 1 - n) = l.reverse[l.length - 1 - n] :: l.reverse.drop (l.length - 1 - n + 1) := List.drop_eq_getElem_cons hlt
          obtain ⟨-, q2, -⟩ := d27 _ ⟨_, rfl⟩ _ _ hc
          rw [if_pos (nI_le (by omega) (by omega))]
          show Ok (some (Int64.toInt32 (lN (nmR (l.reverse.drop (l.length - 1 - n))) - lN (nmR (l.reverse.drop (l.length - 1 - n))) / 27 * 27), z)) _
          rw [q2, lN_i]
          refine Ok.of ?_
          have : l.reverse[l.length - 1 - n] = l.getD n 0 := by
            rw [List.getElem_reverse]
            simp only [List.getD, show l.length - 1 - (l.length - 1 - n) = n by omega, List.getElem?_eq_getElem cn, Option.getD_some]
          rw [this]
      · show Ok (if nI n < nI l.length then _ else some (0, z)) _
        rw [if_neg (nI_nlt (by omega) (by omega))]
        refine Ok.of ?_
        have : l.getD n 0 = 0 := by simp [List.getD, List.getElem?_eq_none (show l.length ≤ n by omega)]
        rw [this]
        rfl
  obtain ⟨r, e, rfl⟩ := fin
  exact e
/-! changes of the whole state -/
def uT (g : SG) (n : Nat) (b : Nat → Nat) : SG := (g.1, g.2.1, g.2.2.1, g.2.2.2.1, g.2.2.2.2.1, (n, b), g.2.2.2.2.2.2)
def uRf (g : SG) (i : Nat) : SG := (g.1, g.2.1, g.2.2.1, g.2.2.2.1, g.2.2.2.2.1, g.2.2.2.2.2.1, va_up g.2.2.2.2.2.2.1 i (g.2.2.2.2.2.2.1 i + 1), g.2.2.2.2.2.2.2)
def uS (g : SG) (v : Int64) : SG := (g.1, g.2.1, g.2.2.1, g.2.2.2.1, g.2.2.2.2.1, g.2.2.2.2.2.1, g.2.2.2.2.2.2.1, g.2.2.2.2.2.2.2.1, v, g.2.2.2.2.2.2.2.2.2)
def uO (g : SG) (l : List Nat) : SG := (g.1, g.2.1, g.2.2.1, g.2.2.2.1, g.2.2.2.2.1, g.2.2.2.2.2.1, g.2.2.2.2.2.2.1, g.2.2.2.2.2.2.2.1, g.2.2.2.2.2.2.2.2.1, l)
def uWU (g : SG) (w : SW) (us : List SW) : SG := (g.1, g.2.1, w, us, g.2.2.2.2)
def uH (g : SG) (l : List (Nat × Nat)) : SG := (g.1, g.2.1, g.2.2.1, g.2.2.2.1, l, g.2.2.2.2.2)
def uFt (g : SG) (f : Int32 × Int32) : SG := (g.1, g.2.1, g.2.2.1, g.2.2.2.1, g.2.2.2.2.1, g.2.2.2.2.2.1, g.2.2.2.2.2.2.1, f, g.2.2.2.2.2.2.2.2)
theorem mI_wA (z : MS) (k i : Nat) (v : Int32) (a : Nat) : mI (wA z k i v) a = mI z a := rfl
theorem mG.refuse {g : SG} {z : MS} (h : mG g z) {i : Nat} (hi : i < 6) : mG (uRf g i) (wA z 9 i (mA z 9 i + 1)) := by
  obtain ⟨h0, h1, h2, h3, h4, h5, h6, h7, h8, h9, h10, h11⟩ := h
  refine ⟨h0, ⟨h1.1, h1.2.1, mSK_now h1.2.2.1 (fun a ha => mA_wne z (by rintro rfl; simp at ha) _ _), sw_scr h1.2.2.2 (by decide) _ _⟩, ?_, h3, h4, h5.of rfl rfl (mA_wne z (by decide) _ _), h6.of rfl (mA_wne z (by decide) _ _), h7.of rfl (mA_wne z (by decide) _ _), fun j hj => ?_, h9, h10, h11.of rfl (mA_wne z (by decide) _ _)⟩
  · show mRow (wK (gW g)) _
    unfold mRow
    rw [mA_wne z (by decide)]
    exact h2
  · rw [mA_w, h8 j hj, h8 i hi]
    show _ = va_up (gR g) i (gR g i + 1) j
    by_cases c : j = i <;> simp [va_up, c]
/-- byte j of a number -/
def bOf (x : Int32) (j : Nat) : Nat := (x >>> nI (8 * (3 - j))).toBitVec.toNat &&& 255
theorem and255 (x : Int32) : x &&& 255 = nI (x.toBitVec.toNat &&& 255) := by
  apply Int32.toBitVec_inj.mp
  show x.toBitVec &&& (255 : Int32).toBitVec = BitVec.ofNat 32 (x.toBitVec.toNat &&& 255)
  rw [BitVec.ofNat_and, BitVec.ofNat_toNat, BitVec.setWidth_eq]
  rfl
theorem b255 (n : Nat) : n &&& 255 < 256 := Nat.lt_of_le_of_lt Nat.and_le_right (by decide)
theorem bOf_lt (x : Int32) (j : Nat) : bOf x j < 256 := b255 _
def bFd (a b c d e : Int32) (j : Nat) : Nat := bOf (if j < 4 then a else if j < 8 then b else if j < 12 then c else if j < 16 then d else e) (j % 4)
def spFeed (g : SG) (a b c d e : Int32) : Int32 × SG := if gT g + 20 ≤ 1600 then (nI (gT g + 20), uT g (gT g + 20) (fun i => if i < gT g then gB g i else bFd a b c d e (i - gT g))) else (-1, uRf g 0)
theorem fd1 : ∀ j, j < 20 → (8 * (3 - (nI j - nI j / 4 * 4))) &&& 31 = nI (8 * (3 - j % 4)) := by decide +kernel
theorem mG.tape {g : SG} {z z' : MS} (h : mG g z) {n : Nat} {b : Nat → Nat} (hn : n ≤ 1600) (hb : ∀ i, i < n → b i < 256) (eI : ∀ a, a ≠ 1 → mI z' a = mI z a) (eL : z'.2.1 = z.2.1) (eA : ∀ a, a ≠ 0 → mA z' a = mA z a) (eB : z'.2.2.2 = z.2.2.2) (ht : mTp n b z') : mG (uT g n b) z' := by
  obtain ⟨⟨o1, o2, o3, o4, o5, o6⟩, h1, h2, h3, h4, h5, h6, h7, h8, h9, h10, h11⟩ := h
  refine ⟨⟨o1, o2, o3, hn, hb, o6⟩, ⟨h1.1, h1.2.1, mSK_now h1.2.2.1 (fun a ha => eA a (by rintro rfl; simp at ha)), ?_⟩, ?_, by rw [eI 58 (by decide)]; exact h3, fun kd i hk hi => ?_, h5.of (eI 65 (by decide)) (eI 66 (by decide)) (eA 64 (by decide)), h6.of (eI 60 (by decide)) (eA 61 (by decide)), ht, by rw [eA 9 (by decide)]; exact h8, by rw [eI 7 (by decide), eI 8 (by decide)]; exact h9, ?_, h11.of (eI 104 (by decide)) (eA 103 (by decide))⟩
  · unfold mSW
    rw [eA 53 (by decide)]
    exact h1.2.2.2
  · unfold mRow
    rw [eA 53 (by decide)]
    exact h2
  · show z'.2.2.2 40 _ = _
    rw [eB]
    exact h4 kd i hk hi
  · show z'.2.1 67 = _
    rw [eL]
    exact h10
theorem m_feed_v {g : SG} {z : MS} (h : mG g z) (a b c d e : Int32) : Ok (m_feed a b c d e z) (fun r => r.1 = (spFeed g a b c d e).1 ∧ mG (spFeed g a b c d e).2 r.2) := by
  have ht := h.2.2.2.2.2.2.2.1
  have o4 := h.1.2.2.2.1
  have o5 := h.1.2.2.2.2.1
  unfold m_feed spFeed
  rw [ht.1, show (20 : Int32) = nI 20 from rfl, nI_add]
  by_cases c1 : gT g + 20 ≤ 1600
  · rw [if_pos (show nI (gT g + 20) ≤ (1600 : Int32) from nI_le (b := 1600) c1 (by decide)), if_pos c1, jn_s]
    refine fx_okN (F := m_feed_L28 a b c d e _) (z := fun _ _ => none) (fun s j y => s (nI j) y) 20 (fun j y => (∀ x, x ≠ 1 → mI y x = mI z x) ∧ y.2.1 = z.2.1 ∧ (∀ x, x ≠ 0 → mA y x = mA z x) ∧ y.2.2.2 = z.2.2.2 ∧ mTp (gT g + j) (fun i => if i < gT g then gB g i else bFd a b c d e (i - gT g)) y) _ ?_ ?_ FU 0 z (Nat.zero_le _) ⟨fun _ _ => rfl, rfl, fun _ _ => rfl, rfl, ht.1, fun i hi => by show mA z 0 i = nI (if i < gT g then gB g i else bFd a b c d e (i - gT g)); rw [if_pos (show i < gT g from hi)]; exact ht.2 i hi⟩ (FU_gt (by decide))
    · rintro s j y hj ⟨e1, e2, e3, e4, e5⟩ go
      have put : ∀ x, x = (if j < 4 then a else if j < 8 then b else if j < 12 then c else if j < 16 then d else e) → Ok (ck (inb (mI y 1) (mN 0)) <| nm (wA y 0 (Int32.toNatClampNeg (mI y 1)) ((x >>> ((8 * (3 - (nI j - nI j / 4 * 4))) &&& 31)) &&& 255)) fun z4 => nm (wI z4 1 ((mI z4 1) + 1)) fun z5 => s (nI j + 1) z5) (fun r => r.1 = nI (gT g + 20) ∧ mG (uT g (gT g + 20) (fun i => if i < gT g then gB g i else bFd a b c d e (i - gT g))) r.2) := fun x hx => by
        rw [e5.1, ck_t (inb_nI (by show _ < 1600; omega) (by decide)), nm_s, nm_s, nI_c (by omega), fd1 j hj, and255, mI_wA, e5.1, nI_1, nI_1]
        refine go _ ⟨fun q hq => by rw [mI_w, if_neg hq, mI_wA, e1 q hq], e2, fun q hq => by show mA (wA y 0 _ _) q = _; rw [mA_wne _ hq, e3 q hq], e4, by rw [mI_w, if_pos rfl, Nat.add_assoc], fun i hi => ?_⟩
        show mA (wA y 0 _ _) 0 i = nI (if i < gT g then gB g i else bFd a b c d e (i - gT g))
        rw [mA_w]
        by_cases ci : i = gT g + j
        · rw [if_pos ci, if_neg (by omega), ci, show gT g + j - gT g = j by omega]
          unfold bFd bOf
          rw [← hx]
        · rw [if_neg ci]
          exact e5.2 i (by omega)
      show Ok (m_feed_L28 a b c d e _ s (nI j) y) _
      unfold m_feed_L28
      rw [if_neg (show ¬ (20 : Int32) ≤ nI j from nI_ge (b := 20) hj (by decide))]
      simp only [jn_s]
      by_cases q4 : j < 4
      · rw [if_neg (show ¬ (4 : Int32) ≤ nI j from nI_ge (b := 4) q4 (by decide))]
        exact put a (by rw [if_pos q4])
      · rw [if_pos (show (4 : Int32) ≤ nI j from nI_le (a := 4) (by omega) (by omega))]
        by_cases q8 : j < 8
        · rw [if_neg (show ¬ (8 : Int32) ≤ nI j from nI_ge (b := 8) q8 (by decide))]
          exact put b (by rw [if_neg q4, if_pos q8])
        · rw [if_pos (show (8 : Int32) ≤ nI j from nI_le (a := 8) (by omega) (by omega))]
          by_cases q12 : j < 12
          · rw [if_neg (show ¬ (12 : Int32) ≤ nI j from nI_ge (b := 12) q12 (by decide))]
            exact put c (by rw [if_neg q4, if_neg q8, if_pos q12])
          · rw [if_pos (show (12 : Int32) ≤ nI j from nI_le (a := 12) (by omega) (by omega))]
            by_cases q16 : j < 16
            · rw [if_neg (show ¬ (16 : Int32) ≤ nI j from nI_ge (b := 16) q16 (by decide))]
              exact put d (by rw [if_neg q4, if_neg q8, if_neg q12, if_pos q16])
            · rw [if_pos (show (16 : Int32) ≤ nI j from nI_le (a := 16) (by omega) (by omega))]
              exact put e (by rw [if_neg q4, if_neg q8, if_neg q12, if_neg q16])
    · rintro s y ⟨e1, e2, e3, e4, e5⟩
      show Ok (m_feed_L28 a b c d e _ s (nI 20) y) _
      unfold m_feed_L28
      rw [if_pos (by decide)]
      refine Ok.of ⟨e5.1, h.tape c1 (fun i hi => ?_) e1 e2 e3 e4 e5⟩
      show (if i < gT g then gB g i else bFd a b c d e (i - gT g)) < 256
      split
      next hq => exact o5 i hq
      next => exact bOf_lt _ _
  · rw [if_neg (show ¬ nI (gT g + 20) ≤ (1600 : Int32) from nI_ge (a := 1600) (by omega) (by omega)), if_neg c1, nm_s, show (Int32.toNatClampNeg 0) = 0 from by decide]
    exact Ok.of ⟨rfl, h.refuse (by decide)⟩
def spEnd (g : SG) (a : Int32) : Bool × SG := if 0 ≤ a.toInt ∧ a.toInt ≤ gT g then (true, uT g a.toNatClampNeg (gB g)) else (false, uRf g 0)
theorem m_end_v {g : SG} {z : MS} (h : mG g z) (a : Int32) : Ok (m_end a z) (fun r => r.1 = (spEnd g a).1 ∧ mG (spEnd g a).2 r.2) := by
  have ht := h.2.2.2.2.2.2.2.1
  have o4 := h.1.2.2.2.1
  have o5 := h.1.2.2.2.2.1
  have no : Ok (nm (wA z 9 (Int32.toNatClampNeg 0) ((mA z 9 (Int32.toNatClampNeg 0)) + 1)) fun z2 => some (false, z2)) (fun r => r.1 = false ∧ mG (uRf g 0) r.2) := by
    rw [nm_s, show (Int32.toNatClampNeg 0) = 0 from by decide]
    exact Ok.of ⟨rfl, h.refuse (by decide)⟩
  unfold m_end spEnd
  rw [jn_s, ht.1]
  by_cases c0 : a < 0
  · have q := Int32.lt_iff_toInt_lt.mp c0
    have e0 : (0 : Int32).toInt = 0 := by decide
    rw [if_pos c0, if_neg (by omega)]
    exact no
  · obtain ⟨j, hj, rfl⟩ := nI_of c0
    rw [if_neg c0, nI_toInt hj]
    by_cases c1 : j ≤ gT g
    · rw [if_pos (nI_le c1 (by omega)), if_pos ⟨by omega, by omega⟩, nm_s, nI_c hj]
      refine Ok.of ⟨rfl, h.tape (by omega) (fun i hi => o5 i (by omega)) (fun q hq => by rw [mI_w, if_neg hq]) rfl (fun _ _ => rfl) rfl ⟨by rw [mI_w, if_pos rfl], fun i hi => ht.2 i (by omega)⟩⟩
    · rw [if_neg (nI_ge (by omega) hj), if_neg (by omega)]
      exact no
def spSeed (g : SG) (a : Int32) : Bool × SG := if 0 ≤ a then (true, uS g a.toInt64) else (false, uRf g 5)
theorem m_seed_v {g : SG} {z : MS} (h : mG g z) (a : Int32) : Ok (m_seed a z) (fun r => r.1 = (spSeed g a).1 ∧ mG (spSeed g a).2 r.2) := by
  unfold m_seed spSeed
  by_cases c : 0 ≤ a
  · rw [if_pos c, if_pos c, nm_s]
    obtain ⟨h0, h1, h2, h3, h4, h5, h6, h7, h8, h9, h10, h11⟩ := h
    refine Ok.of ⟨rfl, h0, h1, h2, h3, h4, h5, h6, h7, h8, h9, ?_, h11⟩
    show va_up z.2.1 67 a.toInt64 67 = a.toInt64
    simp [va_up]
  · rw [if_neg c, if_neg c, nm_s, show (Int32.toNatClampNeg 5) = 5 from by decide]
    exact Ok.of ⟨rfl, h.refuse (by decide)⟩
/-- what is heard: pairs of a person and what he is -/
def hrS (k : SK) (n : Nat) (b : Nat → Nat) : Bool := decide (0 < n ∧ n % 2 = 0 ∧ n / 2 ≤ 16) && (List.range (n / 2)).all fun i => decide (b (2 * i) < kP k ∧ b (2 * i + 1) < 3)
def hrL (n : Nat) (b : Nat → Nat) : List (Nat × Nat) := (List.range (n / 2)).map fun i => (b (2 * i), b (2 * i + 1))
def spHear (g : SG) : Int32 × SG := if hrS (gK g) (gT g) (gB g) = true then (nI (gT g / 2), uH (uT g 0 (gB g)) (hrL (gT g) (gB g))) else (-1, uRf (uT g 0 (gB g)) 1)
theorem hrL_get {n : Nat} {b : Nat → Nat} {i : Nat} (h : i < n / 2) : (hrL n b).getD i (0, 0) = (b (2 * i), b (2 * i + 1)) := by
  unfold hrL
  simp [List.getD, h]
theorem hrL_len (n : Nat) (b : Nat → Nat) : (hrL n b).length = n / 2 := by unfold hrL; simp
theorem m_hear_v {g : SG} {z : MS} (h : mG g z) : Ok (m_hear z) (fun r => r.1 = (spHear g).1 ∧ mG (spHear g).2 r.2) := by
  have ht := h.2.2.2.2.2.2.2.1
  have o4 := h.1.2.2.2.1
  have o5 := h.1.2.2.2.2.1
  have h8 := h.2.1.1.2.1
  have hz1 : mG (uT g 0 (gB g)) (wI z 1 0) := h.tape (by omega) (fun i hi => absurd hi (Nat.not_lt_zero _)) (fun q hq => by rw [mI_w, if_neg hq]) rfl (fun _ _ => rfl) rfl ⟨by rw [mI_w, if_pos rfl]; rfl, fun i hi => absurd hi (Nat.not_lt_zero _)⟩
  have hA : ∀ i, i < gT g → mA (wI z 1 0) 0 i = nI (gB g i) := fun i hi => ht.2 i hi
  have hk1 := hz1.2.1
  have no : hrS (gK g) (gT g) (gB g) = false → Ok (nm (wA (wI z 1 0) 9 (Int32.toNatClampNeg 1) ((mA (wI z 1 0) 9 (Int32.toNatClampNeg 1)) + 1)) fun z8 => some ((-1 : Int32), z8)) (fun r => r.1 = (spHear g).1 ∧ mG (spHear g).2 r.2) := fun hc => by
    unfold spHear
    rw [if_neg (by rw [hc]; decide), nm_s, show (Int32.toNatClampNeg 1) = 1 from by decide]
    exact Ok.of ⟨rfl, hz1.refuse (by decide)⟩
  unfold m_hear
  rw [nm_s, ht.1]
  generalize hy0 : wI z 1 0 = y0 at hz1 hA hk1 no ⊢
  have hk1 : mOk (gK g) (gW g) y0 := hk1
  have dv : nI (gT g) / 2 = nI (gT g / 2) := nI_div (b := 2) (by omega) (by decide) (by decide)
  have md : nI (gT g) - nI (gT g / 2) * 2 = nI (gT g % 2) := by rw [← dv]; exact nI_mod (b := 2) (by omega) (by decide) (by decide)
  rw [dv, md]
  simp only [jn_s]
  -- the loop when it cannot be
  have off : hrS (gK g) (gT g) (gB g) = false → Ok (fx (m_hear_L36 z fun (x2 : Bool) (z3 : MS) => if (bI x2) = 0 then nm (wA z3 9 (Int32.toNatClampNeg 1) ((mA z3 9 (Int32.toNatClampNeg 1)) + 1)) fun z8 => some ((-1), z8) else fx (m_hear_L100 z fun (z4 : MS) => nm (wI z4 60 (nI (gT g / 2))) fun z5 => some ((mI z5 60), z5)) (fun _ _ => none) FU 0 z3) (fun _ _ _ => none) FU false 0 y0) (fun r => r.1 = (spHear g).1 ∧ mG (spHear g).2 r.2) := fun hc => by
    refine fx_ok (F := m_hear_L36 z _) (z := fun _ _ _ => none) (fun s (_ : Unit) => s false 0 y0) (fun _ => 0) (fun _ => True) _ ?_ FU () trivial (FU_gt (by decide))
    rintro s - - go
    show Ok (m_hear_L36 z _ s false 0 y0) _
    unfold m_hear_L36
    by_cases c : mI z 1 ≤ 0
    · rw [if_pos c]
      exact no hc
    · rw [if_neg c, if_pos (by decide)]
      exact no hc
  by_cases c1 : gT g = 0
  · rw [if_pos (by rw [c1]; decide)]
    refine off ?_
    unfold hrS
    rw [decide_eq_false (by omega)]
    rfl
  rw [if_neg (nI_nle (by omega) (by omega))]
  by_cases c2 : gT g % 2 = 0
  · rw [if_pos (by rw [c2]; rfl)]
    by_cases c3 : gT g / 2 ≤ 16
    · rw [if_neg (show ¬ (16 : Int32) < nI (gT g / 2) from nI_nlt (a := 16) (by omega) (by decide))]
      have hS : ∀ b : Bool, (b = true ↔ ∀ i, i < gT g / 2 → gB g (2 * i) < kP (gK g) ∧ gB g (2 * i + 1) < 3) → b = hrS (gK g) (gT g) (gB g) := fun b hb => by
        have : hrS (gK g) (gT g) (gB g) = true ↔ ∀ i, i < gT g / 2 → gB g (2 * i) < kP (gK g) ∧ gB g (2 * i + 1) < 3 := by
          unfold hrS
          rw [decide_eq_true (by omega), Bool.true_and, List.all_eq_true]
          exact ⟨fun q i hi => of_decide_eq_true (q i (List.mem_range.mpr hi)), fun q i hi => decide_eq_true (q i (List.mem_range.mp hi))⟩
        cases b with
        | true => rw [this.mpr (hb.mp rfl)]
        | false =>
          cases e : hrS (gK g) (gT g) (gB g) with
          | false => rfl
          | true => exact absurd (hb.mpr (this.mp e)) (by decide)
      have hT2 : gT g = 2 * (gT g / 2) := by omega
      refine fx_okN (F := m_hear_L36 z _) (z := fun _ _ _ => none) (fun s j (b : Bool) => s b (nI (2 * j)) y0) (gT g / 2) (fun j b => if b = true then ∀ i, i < j → gB g (2 * i) < kP (gK g) ∧ gB g (2 * i + 1) < 3 else hrS (gK g) (gT g) (gB g) = false) _ ?_ ?_ FU 0 true (Nat.zero_le _) (by rw [if_pos rfl]; exact fun i hi => absurd hi (Nat.not_lt_zero _)) (FU_gt (by omega))
      · rintro s j b hj hb go
        show Ok (m_hear_L36 z _ s b (nI (2 * j)) y0) _
        unfold m_hear_L36
        rw [ht.1, if_neg (nI_ge (by omega) (by omega))]
        cases b with
        | false =>
          rw [if_neg (by decide)] at hb
          rw [if_pos (by decide)]
          exact no hb
        | true =>
          rw [if_pos rfl] at hb
          have b0 := o5 (2 * j) (by omega)
          have b1 := o5 (2 * j + 1) (by omega)
          rw [if_neg (by decide), ck_t (inb_nI (by show _ < 1600; omega) (by decide)), nI_c (by omega), hA _ (by omega), m_isPerson_s hk1, bnd_s, show (2 : Int32) = nI 2 from rfl, nI_add, nI_1, show 2 * j + 2 = 2 * (j + 1) by omega]
          simp only [jn_s]
          have bad : ¬ (gB g (2 * j) < kP (gK g) ∧ gB g (2 * j + 1) < 3) → Ok (s false (nI (2 * (j + 1))) y0) (fun r => r.1 = (spHear g).1 ∧ mG (spHear g).2 r.2) := fun hc => by
            refine go false ?_
            rw [if_neg (by decide)]
            exact (hS false ⟨fun q => (by cases q), fun q => absurd (q j hj) hc⟩).symm
          cases cp : sPn (kP (gK g)) (nI (gB g (2 * j))) with
          | false =>
            rw [if_pos (by decide)]
            refine bad (fun q => ?_)
            rw [sPn_of q.1 h8] at cp
            cases cp
          | true =>
            obtain ⟨q, hq, e⟩ := sPn_nat cp h8
            have e := (nI_eq (by omega) (by omega)).mp e
            rw [if_neg (by decide), ck_t (inb_nI (by show _ < 1600; omega) (by decide)), nI_c (by omega), hA _ (by omega)]
            by_cases c4 : gB g (2 * j + 1) < 3
            · rw [if_neg (show ¬ (3 : Int32) ≤ nI (gB g (2 * j + 1)) from nI_ge (b := 3) c4 (by decide))]
              refine go true ?_
              rw [if_pos rfl]
              intro i hi
              by_cases ei : i = j
              · rw [ei]; exact ⟨by omega, c4⟩
              · exact hb i (by omega)
            · rw [if_pos (show (3 : Int32) ≤ nI (gB g (2 * j + 1)) from nI_le (a := 3) (by omega) (by omega))]
              exact bad (fun q => c4 q.2)
      · rintro s b hb
        show Ok (m_hear_L36 z _ s b (nI (2 * (gT g / 2))) y0) _
        unfold m_hear_L36
        rw [ht.1, if_pos (nI_le (by omega) (by omega))]
        cases b with
        | false =>
          rw [if_neg (by decide)] at hb
          exact no hb
        | true =>
          rw [if_pos rfl] at hb
          have hyes := hS true ⟨fun _ => hb, fun _ => rfl⟩
          show Ok (if (bI true) = 0 then _ else fx (m_hear_L100 z fun (z4 : MS) => nm (wI z4 60 (nI (gT g / 2))) fun z5 => some ((mI z5 60), z5)) (fun _ _ => none) FU 0 y0) _
          rw [if_neg (by decide)]
          unfold spHear
          rw [if_pos hyes.symm]
          refine fx_okN (F := m_hear_L100 z _) (z := fun _ _ => none) (fun s j y => s (nI j) y) (gT g) (fun j y => (∀ a, mI y a = mI y0 a) ∧ y.2.1 = y0.2.1 ∧ (∀ a, a ≠ 61 → mA y a = mA y0 a) ∧ y.2.2.2 = y0.2.2.2 ∧ ∀ i, i < j → mA y 61 i = nI (gB g i)) _ ?_ ?_ FU 0 y0 (Nat.zero_le _) ⟨fun _ => rfl, rfl, fun _ _ => rfl, rfl, fun i hi => absurd hi (Nat.not_lt_zero _)⟩ (FU_gt (by omega))
          · rintro s2 j y hj ⟨e1, e2, e3, e4, e5⟩ go2
            show Ok (m_hear_L100 z _ s2 (nI j) y) _
            unfold m_hear_L100
            rw [ht.1, if_neg (nI_ge hj (by omega)), ck_t (inb_nI (by show _ < 1600; omega) (by decide)), ck_t (inb_nI (by show _ < 32; omega) (by decide)), nm_s, nI_c (by omega), nI_1]
            refine go2 _ ⟨e1, e2, fun a ha => by rw [mA_wne _ ha, e3 a ha], e4, fun i hi => ?_⟩
            rw [mA_w, e3 0 (by decide), hA j hj]
            by_cases c : i = j
            · rw [if_pos c, c]
            · rw [if_neg c]
              exact e5 i (by omega)
          · rintro s2 y ⟨e1, e2, e3, e4, e5⟩
            show Ok (m_hear_L100 z _ s2 (nI (gT g)) y) _
            unfold m_hear_L100
            rw [ht.1, if_pos (nI_le (Nat.le_refl _) (by omega))]
            show Ok (nm (wI y 60 (nI (gT g / 2))) fun z5 => some ((mI z5 60), z5)) _
            rw [nm_s]
            obtain ⟨⟨q1, q2, q3, q4⟩, g1, g2, g3, g4, g5, g6, g7, g8, g9, g10, g11⟩ := hz1
            have ei : ∀ a, a ≠ 60 → mI (wI y 60 (nI (gT g / 2))) a = mI y0 a := fun a ha => by rw [mI_w, if_neg ha, e1]
            refine Ok.of ⟨by rw [mI_w, if_pos rfl], ⟨q1, q2, fun i hi => ?_, q4⟩, ⟨g1.1, g1.2.1, mSK_now g1.2.2.1 (fun a ha => e3 a (by rintro rfl; simp at ha)), ?_⟩, ?_, by rw [ei 58 (by decide)]; exact g3, fun kd i hk hi => ?_, g5.of (ei 65 (by decide)) (ei 66 (by decide)) (e3 64 (by decide)), ⟨?_, ?_, fun i hi => ?_⟩, g7.of (ei 1 (by decide)) (e3 0 (by decide)), fun i hi => ?_, by rw [ei 7 (by decide), ei 8 (by decide)]; exact g9, ?_, g11.of (ei 104 (by decide)) (e3 103 (by decide))⟩
            · have hi : i < (hrL (gT g) (gB g)).length := hi
              rw [hrL_len] at hi
              show ((hrL (gT g) (gB g)).getD i (0, 0)).1 < kP (gK g) ∧ ((hrL (gT g) (gB g)).getD i (0, 0)).2 < 3
              rw [hrL_get hi]
              exact hb i hi
            · have : mSW (gK g) (gW g) y := by
                unfold mSW
                rw [e3 53 (by decide)]
                exact g1.2.2.2
              exact this
            · have : mRow (wK (gW g)) y := by
                unfold mRow
                rw [e3 53 (by decide)]
                exact g2
              exact this
            · show y.2.2.2 40 _ = _
              rw [e4]
              exact g4 kd i hk hi
            · show (hrL (gT g) (gB g)).length ≤ 16
              rw [hrL_len]
              exact c3
            · show mI (wI y 60 (nI (gT g / 2))) 60 = nI (hrL (gT g) (gB g)).length
              rw [mI_w, if_pos rfl, hrL_len]
            · have hi : i < (hrL (gT g) (gB g)).length := hi
              rw [hrL_len] at hi
              show mA y 61 (2 * i) = nI ((hrL (gT g) (gB g)).getD i (0, 0)).1 ∧ mA y 61 (2 * i + 1) = nI ((hrL (gT g) (gB g)).getD i (0, 0)).2
              rw [hrL_get hi]
              exact ⟨e5 _ (by omega), e5 _ (by omega)⟩
            · show mA y 9 i = _
              rw [e3 9 (by decide)]
              exact g8 i hi
            · show y.2.1 67 = _
              rw [e2]
              exact g10
    · rw [if_pos (show (16 : Int32) < nI (gT g / 2) from nI_lt (a := 16) (by omega) (by omega))]
      refine off ?_
      unfold hrS
      rw [decide_eq_false (by omega)]
      rfl
  · rw [if_neg (nI_ne0 (by omega) (by omega))]
    refine off ?_
    unfold hrS
    rw [decide_eq_false (by omega)]
    rfl
