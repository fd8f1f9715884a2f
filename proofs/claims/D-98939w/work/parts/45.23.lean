/-! PART 23: plain: the Model's own words and names -/
set_option maxRecDepth 100000
def ownW : List (List Nat) := [[102, 97, 99, 116], [119, 111, 114, 116, 104], [112, 101, 114, 115, 111, 110], [99, 97, 108, 109], [107, 110, 111, 119, 115], [101, 114, 114, 115], [116, 97, 117, 103, 104, 116], [98, 121], [116, 97, 107, 101, 115], [103, 97, 114, 98, 108, 101], [115, 105, 116, 115], [112, 97, 115, 115], [116, 114, 105, 101, 115], [105, 108, 108], [114, 105, 103, 104, 116], [119, 114, 111, 110, 103], [121, 101, 97, 114], [99, 108, 97, 115, 115], [109, 99, 97, 108, 109], [108, 101, 102, 116], [109, 97, 114, 107, 115], [110, 117, 109, 98, 101, 114], [111, 114], [97, 110, 100], [110, 111, 116], [97, 108, 108], [109, 105, 110], [109, 97, 120]]
theorem own_G5 {z : MS} {w0 w1 w2 w3 w4 : Nat} {A0 A1 A2 A3 A4 : Bool} (a0 : m_isHere w0 z = some (A0, z)) (a1 : m_isHere w1 z = some (A1, z)) (a2 : m_isHere w2 z = some (A2, z)) (a3 : m_isHere w3 z = some (A3, z)) (a4 : m_isHere w4 z = some (A4, z)) (x : Bool) (F : Bool → MS → Option (Bool × MS)) :
    (jn F fun j => jn (fun (y : MS) => j true y) fun jt => if bI x = 0 then bnd (m_isHere w0 z) fun r0 y0 => if bI r0 = 0 then bnd (m_isHere w1 y0) fun r1 y1 => if bI r1 = 0 then bnd (m_isHere w2 y1) fun r2 y2 => if bI r2 = 0 then bnd (m_isHere w3 y2) fun r3 y3 => if bI r3 = 0 then bnd (m_isHere w4 y3) fun r4 y4 => if bI r4 = 0 then j false y4 else jt y4 else jt y3 else jt y2 else jt y1 else jt y0 else jt z) = F (x || A0 || A1 || A2 || A3 || A4) z := by
  simp only [jn_s, a0, a1, a2, a3, a4, bnd_s]
  have bt : ¬ bI true = 0 := by decide
  have bf : bI false = 0 := by decide
  cases x with
  | true => simp only [if_neg bt, if_pos bf, Bool.true_or, Bool.or_true, Bool.false_or, Bool.or_false]
  | false =>
  cases A0 with
  | true => simp only [if_neg bt, if_pos bf, Bool.true_or, Bool.or_true, Bool.false_or, Bool.or_false]
  | false =>
  cases A1 with
  | true => simp only [if_neg bt, if_pos bf, Bool.true_or, Bool.or_true, Bool.false_or, Bool.or_false]
  | false =>
  cases A2 with
  | true => simp only [if_neg bt, if_pos bf, Bool.true_or, Bool.or_true, Bool.false_or, Bool.or_false]
  | false =>
  cases A3 with
  | true => simp only [if_neg bt, if_pos bf, Bool.true_or, Bool.or_true, Bool.false_or, Bool.or_false]
  | false =>
  cases A4 with
  | true => simp only [if_neg bt, if_pos bf, Bool.true_or, Bool.or_true, Bool.false_or, Bool.or_false]
  | false =>
  simp only [if_neg bt, if_pos bf, Bool.true_or, Bool.or_true, Bool.false_or, Bool.or_false]
theorem own_G6 {z : MS} {w0 w1 w2 w3 w4 w5 : Nat} {A0 A1 A2 A3 A4 A5 : Bool} (a0 : m_isHere w0 z = some (A0, z)) (a1 : m_isHere w1 z = some (A1, z)) (a2 : m_isHere w2 z = some (A2, z)) (a3 : m_isHere w3 z = some (A3, z)) (a4 : m_isHere w4 z = some (A4, z)) (a5 : m_isHere w5 z = some (A5, z)) (x : Bool) (F : Bool → MS → Option (Bool × MS)) :
    (jn F fun j => jn (fun (y : MS) => j true y) fun jt => if bI x = 0 then bnd (m_isHere w0 z) fun r0 y0 => if bI r0 = 0 then bnd (m_isHere w1 y0) fun r1 y1 => if bI r1 = 0 then bnd (m_isHere w2 y1) fun r2 y2 => if bI r2 = 0 then bnd (m_isHere w3 y2) fun r3 y3 => if bI r3 = 0 then bnd (m_isHere w4 y3) fun r4 y4 => if bI r4 = 0 then bnd (m_isHere w5 y4) fun r5 y5 => if bI r5 = 0 then j false y5 else jt y5 else jt y4 else jt y3 else jt y2 else jt y1 else jt y0 else jt z) = F (x || A0 || A1 || A2 || A3 || A4 || A5) z := by
  simp only [jn_s, a0, a1, a2, a3, a4, a5, bnd_s]
  have bt : ¬ bI true = 0 := by decide
  have bf : bI false = 0 := by decide
  cases x with
  | true => simp only [if_neg bt, if_pos bf, Bool.true_or, Bool.or_true, Bool.false_or, Bool.or_false]
  | false =>
  cases A0 with
  | true => simp only [if_neg bt, if_pos bf, Bool.true_or, Bool.or_true, Bool.false_or, Bool.or_false]
  | false =>
  cases A1 with
  | true => simp only [if_neg bt, if_pos bf, Bool.true_or, Bool.or_true, Bool.false_or, Bool.or_false]
  | false =>
  cases A2 with
  | true => simp only [if_neg bt, if_pos bf, Bool.true_or, Bool.or_true, Bool.false_or, Bool.or_false]
  | false =>
  cases A3 with
  | true => simp only [if_neg bt, if_pos bf, Bool.true_or, Bool.or_true, Bool.false_or, Bool.or_false]
  | false =>
  cases A4 with
  | true => simp only [if_neg bt, if_pos bf, Bool.true_or, Bool.or_true, Bool.false_or, Bool.or_false]
  | false =>
  cases A5 with
  | true => simp only [if_neg bt, if_pos bf, Bool.true_or, Bool.or_true, Bool.false_or, Bool.or_false]
  | false =>
  simp only [if_neg bt, if_pos bf, Bool.true_or, Bool.or_true, Bool.false_or, Bool.or_false]
theorem own_G4 {z : MS} {w0 w1 w2 w3 : Nat} {A0 A1 A2 A3 : Bool} (a0 : m_isHere w0 z = some (A0, z)) (a1 : m_isHere w1 z = some (A1, z)) (a2 : m_isHere w2 z = some (A2, z)) (a3 : m_isHere w3 z = some (A3, z)) (x : Bool) (F : Bool → MS → Option (Bool × MS)) :
    (jn F fun j => jn (fun (y : MS) => j true y) fun jt => if bI x = 0 then bnd (m_isHere w0 z) fun r0 y0 => if bI r0 = 0 then bnd (m_isHere w1 y0) fun r1 y1 => if bI r1 = 0 then bnd (m_isHere w2 y1) fun r2 y2 => if bI r2 = 0 then bnd (m_isHere w3 y2) fun r3 y3 => if bI r3 = 0 then j false y3 else jt y3 else jt y2 else jt y1 else jt y0 else jt z) = F (x || A0 || A1 || A2 || A3) z := by
  simp only [jn_s, a0, a1, a2, a3, bnd_s]
  have bt : ¬ bI true = 0 := by decide
  have bf : bI false = 0 := by decide
  cases x with
  | true => simp only [if_neg bt, if_pos bf, Bool.true_or, Bool.or_true, Bool.false_or, Bool.or_false]
  | false =>
  cases A0 with
  | true => simp only [if_neg bt, if_pos bf, Bool.true_or, Bool.or_true, Bool.false_or, Bool.or_false]
  | false =>
  cases A1 with
  | true => simp only [if_neg bt, if_pos bf, Bool.true_or, Bool.or_true, Bool.false_or, Bool.or_false]
  | false =>
  cases A2 with
  | true => simp only [if_neg bt, if_pos bf, Bool.true_or, Bool.or_true, Bool.false_or, Bool.or_false]
  | false =>
  cases A3 with
  | true => simp only [if_neg bt, if_pos bf, Bool.true_or, Bool.or_true, Bool.false_or, Bool.or_false]
  | false =>
  simp only [if_neg bt, if_pos bf, Bool.true_or, Bool.or_true, Bool.false_or, Bool.or_false]
section RM
variable {n : Nat} {b : Nat → Nat}
theorem m_isOwnHere_v {j : Nat} {z : MS} (h : mAt n b j z) (hj : sSk n b j = j) (h5 : mI z 5 = 0) : m_isOwnHere z = some (ownW.any (hB n b j), z) := by
  have q10 := m_isHere_j (w := 10) (W := [102, 97, 99, 116]) rfl rfl (by decide) h hj h5
  have q11 := m_isHere_j (w := 11) (W := [119, 111, 114, 116, 104]) rfl rfl (by decide) h hj h5
  have q12 := m_isHere_j (w := 12) (W := [112, 101, 114, 115, 111, 110]) rfl rfl (by decide) h hj h5
  have q13 := m_isHere_j (w := 13) (W := [99, 97, 108, 109]) rfl rfl (by decide) h hj h5
  have q14 := m_isHere_j (w := 14) (W := [107, 110, 111, 119, 115]) rfl rfl (by decide) h hj h5
  have q15 := m_isHere_j (w := 15) (W := [101, 114, 114, 115]) rfl rfl (by decide) h hj h5
  have q16 := m_isHere_j (w := 16) (W := [116, 97, 117, 103, 104, 116]) rfl rfl (by decide) h hj h5
  have q17 := m_isHere_j (w := 17) (W := [98, 121]) rfl rfl (by decide) h hj h5
  have q18 := m_isHere_j (w := 18) (W := [116, 97, 107, 101, 115]) rfl rfl (by decide) h hj h5
  have q19 := m_isHere_j (w := 19) (W := [103, 97, 114, 98, 108, 101]) rfl rfl (by decide) h hj h5
  have q20 := m_isHere_j (w := 20) (W := [115, 105, 116, 115]) rfl rfl (by decide) h hj h5
  have q21 := m_isHere_j (w := 21) (W := [112, 97, 115, 115]) rfl rfl (by decide) h hj h5
  have q22 := m_isHere_j (w := 22) (W := [116, 114, 105, 101, 115]) rfl rfl (by decide) h hj h5
  have q23 := m_isHere_j (w := 23) (W := [105, 108, 108]) rfl rfl (by decide) h hj h5
  have q24 := m_isHere_j (w := 24) (W := [114, 105, 103, 104, 116]) rfl rfl (by decide) h hj h5
  have q25 := m_isHere_j (w := 25) (W := [119, 114, 111, 110, 103]) rfl rfl (by decide) h hj h5
  have q26 := m_isHere_j (w := 26) (W := [121, 101, 97, 114]) rfl rfl (by decide) h hj h5
  have q27 := m_isHere_j (w := 27) (W := [99, 108, 97, 115, 115]) rfl rfl (by decide) h hj h5
  have q28 := m_isHere_j (w := 28) (W := [109, 99, 97, 108, 109]) rfl rfl (by decide) h hj h5
  have q29 := m_isHere_j (w := 29) (W := [108, 101, 102, 116]) rfl rfl (by decide) h hj h5
  have q30 := m_isHere_j (w := 30) (W := [109, 97, 114, 107, 115]) rfl rfl (by decide) h hj h5
  have q31 := m_isHere_j (w := 31) (W := [110, 117, 109, 98, 101, 114]) rfl rfl (by decide) h hj h5
  have q32 := m_isHere_j (w := 32) (W := [111, 114]) rfl rfl (by decide) h hj h5
  have q33 := m_isHere_j (w := 33) (W := [97, 110, 100]) rfl rfl (by decide) h hj h5
  have q34 := m_isHere_j (w := 34) (W := [110, 111, 116]) rfl rfl (by decide) h hj h5
  have q35 := m_isHere_j (w := 35) (W := [97, 108, 108]) rfl rfl (by decide) h hj h5
  have q36 := m_isHere_j (w := 36) (W := [109, 105, 110]) rfl rfl (by decide) h hj h5
  have q37 := m_isHere_j (w := 37) (W := [109, 97, 120]) rfl rfl (by decide) h hj h5
  unfold m_isOwnHere
  rw [q10, bnd_s, own_G5 q11 q12 q13 q14 q15]
  rw [own_G6 q16 q17 q18 q19 q20 q21]
  rw [own_G6 q22 q23 q24 q25 q26 q27]
  rw [own_G6 q28 q29 q30 q31 q32 q33]
  rw [own_G4 q34 q35 q36 q37]
  unfold ownW
  simp only [List.any_cons, List.any_nil, Bool.or_assoc, Bool.or_false]
theorem own_any {j : Nat} {v : List Nat × Nat} {e : Nat} (h : rWordJ n b j = .inr (v, e)) : ownW.any (hB n b j) = decide (v.1 ∈ ownW) := by
  have hf : hB n b j = fun W => decide (v.1 = W) := by
    funext W
    exact hB_f h
  rw [hf]
  cases c : ownW.any (fun W => decide (v.1 = W)) with
  | true =>
    obtain ⟨W, w1, w2⟩ := List.any_eq_true.mp c
    rw [decide_eq_true (show v.1 ∈ ownW by rw [of_decide_eq_true w2]; exact w1)]
  | false =>
    symm
    refine decide_eq_false (fun g => ?_)
    have := List.any_eq_false.mp c _ g
    exact this (decide_eq_true rfl)
/-- a name: no own word, at most six letters -/
def rNameJ (n : Nat) (b : Nat → Nat) (j : Nat) : RS (List Nat × Nat) := sbd (rWordJ n b j) fun v e => if v.1 ∈ ownW then .inl (1, j) else if 6 < v.1.length then .inl (1, j + 6) else .inr ((v.1.map (· - 96), j), e)
def mRn (z z' : MS) : Prop := (∀ a, a ≠ 2 → a ≠ 4 → a ≠ 5 → a ≠ 6 → a ≠ 38 → mI z' a = mI z a) ∧ z'.2 = z.2
theorem mRd.rn {z z' : MS} (h : mRd z z') : mRn z z' := ⟨fun a h1 h2 h3 h4 _ => h.1 a h1 h2 h3 h4, h.2⟩
theorem mRn.rf (z : MS) : mRn z z := ⟨fun _ _ _ _ _ _ => rfl, rfl⟩
theorem mRn.tr {z1 z2 z3 : MS} (h : mRn z1 z2) (g : mRn z2 z3) : mRn z1 z3 := ⟨fun a h1 h2 h3 h4 h5 => (g.1 a h1 h2 h3 h4 h5).trans (h.1 a h1 h2 h3 h4 h5), g.2.trans h.2⟩
theorem mRn.int (z : MS) {k : Nat} (hk : k = 2 ∨ k = 4 ∨ k = 5 ∨ k = 6 ∨ k = 38) (v : Int32) : mRn z (wI z k v) := ⟨fun a h1 h2 h3 h4 h5 => mI_ne z (by omega) v, rfl⟩
def flt (g : Nat × Nat) (z : MS) : Prop := mI z 5 = nI g.1 ∧ mI z 6 = nI g.2 ∧ 0 < g.1 ∧ g.1 < 10
theorem flt.ne {g : Nat × Nat} {z : MS} (h : flt g z) : ¬ mI z 5 = 0 := by
  rw [h.1]
  exact nI_ne0 h.2.2.1 (by have := h.2.2.2; omega)
theorem flt_of (z : MS) {k : Nat} (hk : 0 < k ∧ k < 10) (p : Nat) : flt (k, p) (mFlt z k p) := ⟨(mFlt_5 z k p).1, (mFlt_5 z k p).2, hk.1, hk.2⟩
theorem nmV_app (l : List Nat) (d : Nat) : nmV (l ++ [d]) = 27 * nmV l + d := by
  unfold nmV
  rw [List.reverse_append]
  rfl
/-- the letters from j to i -/
def lts (b : Nat → Nat) (j m : Nat) : List Nat := (seg b j m).map (· - 96)
theorem seg_last (b : Nat → Nat) : ∀ (m j : Nat), seg b j (m + 1) = seg b j m ++ [b (j + m)]
  | 0, j => rfl
  | m + 1, j => by
    show b j :: seg b (j + 1) (m + 1) = b j :: (seg b (j + 1) m ++ [b (j + (m + 1))])
    rw [seg_last b m (j + 1), show j + 1 + m = j + (m + 1) by omega]
theorem lN_add' (a c : Nat) : lN a + lN c = lN (a + c) := (Int64.ofNat_add a c).symm
theorem lN_mul' (a c : Nat) : lN a * lN c = lN (a * c) := (Int64.ofNat_mul a c).symm
theorem lN_sub' {a c : Nat} (h : c ≤ a) : lN a - lN c = lN (a - c) := (Int64.ofNat_sub a c h).symm
theorem name_L {z : MS} (ht : mTx n b z) {j : Nat} (h38 : mI z 38 = nI j) (k145 : Int64 → MS → Option (Int64 × MS)) (k98 : MS → Option (Int64 × MS)) (dm : Int64 → MS → Option (Int64 × MS)) : ∀ (m i : Nat), j ≤ i → i ≤ j + 6 → i ≤ n → n - i < m →
    fx (m_name_L58 k145 k98) dm m (lN (nmV (lts b j (i - j)))) (wI z 2 (nI i)) = if 6 < sWe n b i - j then k98 (wI z 2 (nI (j + 6))) else k145 (lN (nmV (lts b j (sWe n b i - j)))) (wI z 2 (nI (sWe n b i)))
  | 0, i, _, _, _, h => absurd h (Nat.not_lt_zero _)
  | m + 1, i, hji, hi6, hin, hm => by
    have hn := ht.1
    have IH := name_L ht h38 k145 k98 dm m
    rw [fx_s]
    generalize fx (m_name_L58 k145 k98) dm m = S at IH ⊢
    unfold m_name_L58
    rw [mI_ne z (show (3 : Nat) ≠ 2 by decide), ht.2.2, mI_eq]
    by_cases c : i < n
    · obtain ⟨hb, hA⟩ := ht.2.1 i c
      rw [if_neg (nI_ge c (by omega)), ck_t (inb_nI (by show _ < 1600; omega) (by decide)), nI_c (show i < 2 ^ 31 by omega)]
      show bnd (m_isLetter (mA z 0 i) _) _ = _
      rw [hA, m_isLetter_n (by omega), bnd_s]
      have e : sWe n b i = if isL (b i) = true then sWe n b (i + 1) else i := by
        unfold sWe
        rw [show n - i = (n - (i + 1)) + 1 by omega]
        rfl
      cases q : isL (b i) with
      | false =>
        rw [q, if_neg (by decide)] at e
        rw [if_pos (by decide), e, if_neg (by omega)]
      | true =>
        rw [q, if_pos rfl] at e
        have e1 := sWe_gt c q
        rw [if_neg (by decide), mI_eq, mI_ne z (show (38 : Nat) ≠ 2 by decide), h38, nI_sub hji]
        have e6 : (nI (i - j) = (6 : Int32)) ↔ i - j = 6 := nI_eq (b := 6) (by omega) (by decide)
        by_cases c6 : i - j = 6
        · rw [if_pos (e6.mpr c6), if_pos (by omega), show j + 6 = i by omega]
        · rw [if_neg (fun g => c6 (e6.mp g)), ck_t (inb_nI (by show _ < 1600; omega) (by decide)), nm_s, wI_wI, nI_1]
          have hd := of_decide_eq_true q
          have ev : (27 : Int64) * lN (nmV (lts b j (i - j))) + Int32.toInt64 (mA (wI z 2 (nI i)) 0 (Int32.toNatClampNeg (nI i))) - 97 + 1 = lN (nmV (lts b j (i + 1 - j))) := by
            rw [nI_c (show i < 2 ^ 31 by omega)]
            show (27 : Int64) * lN (nmV (lts b j (i - j))) + Int32.toInt64 (mA z 0 i) - 97 + 1 = _
            rw [hA, nI_l (show b i < 2 ^ 31 by omega), show (27 : Int64) = lN 27 from rfl, lN_mul', lN_add', show (97 : Int64) = lN 97 from rfl, lN_sub' (by omega), show (1 : Int64) = lN 1 from rfl, lN_add']
            congr 1
            rw [show i + 1 - j = (i - j) + 1 by omega]
            unfold lts
            rw [seg_last, List.map_append, show j + (i - j) = i by omega]
            show _ = nmV (_ ++ [b i - 96])
            rw [nmV_app]
            omega
          rw [ev, IH (i + 1) (by omega) (by omega) c (by omega), ← e]
    · have e : sWe n b i = i := by
        unfold sWe
        rw [show n - i = 0 by omega]
        rfl
      rw [if_pos (nI_le (by omega) (by omega)), e, if_neg (by omega)]
theorem m_name_v {a : Nat} {z : MS} (h : mAt n b a z) (h5 : mI z 5 = 0) :
    ∃ r z', m_name z = some (r, z') ∧ mRn z z' ∧ match rNameJ n b (sSk n b a) with
      | .inl g => flt g z'
      | .inr (v, e) => r = lN (nmV v.1) ∧ mAt n b e z' ∧ mI z' 5 = 0 ∧ mI z' 38 = nI v.2 := by
  have hs := h.sk
  have ht := h.1
  have hn := ht.1
  have hjj := sSk_id n b a
  have s5 : mI (wI z 2 (nI (sSk n b a))) 5 = 0 := by rw [mI_ne _ (by decide)]; exact h5
  unfold m_name rNameJ
  rw [if_pos h5, m_look_v h, bnd_s, m_isLetter_r ht, bnd_s]
  have rd := mRn.int z (k := 2) (by decide) (nI (sSk n b a))
  generalize wI z 2 (nI (sSk n b a)) = z1 at hs s5 rd
  generalize sSk n b a = j at hs hjj
  have f1 : ∃ r z', (bnv (m_fail 1 (mI z1 2) z1) fun z4 => some ((0 : Int64), z4)) = some (r, z') ∧ mRn z z' ∧ flt (1, j) z' := by
    rw [hs.2.1, show (1 : Int32) = nI 1 from rfl, m_fail_v s5, bnv_s]
    exact ⟨_, _, rfl, rd.tr (mRd.flt _ _ _).rn, flt_of _ (by decide) _⟩
  simp only [jn_s]
  cases qw : rWordJ n b j with
  | inl g =>
    obtain ⟨rfl, g2⟩ := rWordJ_l qw
    rw [sbd_l]
    cases c1 : isL (rB n b j) with
    | false =>
      rw [if_pos (by decide)]
      exact f1
    | true =>
      have c2 : pv b j = true := by
        cases h : pv b j with
        | true => rfl
        | false => exact absurd ⟨c1, h⟩ g2
      rw [if_neg (by decide), if_pos (hs.end.mpr c2)]
      exact f1
  | inr p =>
    obtain ⟨v, e⟩ := p
    obtain ⟨w1, w2, w3, w4, w5, w6, w7⟩ := rWordJ_r qw
    have c1 : isL (rB n b j) = true := by unfold rB; rw [if_pos w1]; exact w2
    have c2 : ¬ pv b j = true := by rw [w3]; decide
    rw [c1, if_neg (show ¬ bI true = 0 by decide), if_neg (fun g => c2 (hs.end.mp g)), m_isOwnHere_v hs hjj s5, bnd_s, own_any qw, sbd_r]
    by_cases c3 : v.1 ∈ ownW
    · rw [decide_eq_true c3, if_neg (show ¬ bI true = 0 by decide), if_pos c3]
      exact f1
    · rw [decide_eq_false c3, if_pos (show bI false = 0 by decide), if_neg c3, nm_s, hs.2.1]
      have L := name_L (hs.1.int (show (38 : Nat) ≠ 3 by decide) (nI j)) (mI_eq z1 38 (nI j)) (fun (x1 : Int64) (z7 : MS) =>
            nm (wI z7 4 (mI z7 2)) fun z8 =>
            some (x1, z8)) (fun (z9 : MS) =>
            bnv (m_fail 1 (mI z9 2) z9) fun z10 =>
            some (0, z10)) (fun _ _ => none) FU j (Nat.le_refl _) (by omega) hs.2.2.1 (FU_gt (by omega))
      rw [Nat.sub_self, show lN (nmV (lts b j 0)) = 0 from rfl, show wI (wI z1 38 (nI j)) 2 (nI j) = wI z1 38 (nI j) by
        have h2 : mI (wI z1 38 (nI j)) 2 = nI j := by rw [mI_ne _ (by decide)]; exact hs.2.1
        have h3 := wI_self (wI z1 38 (nI j)) 2
        rw [h2] at h3
        exact h3] at L
      rw [L]
      have el : v.1.length = sWe n b j - j := by rw [w4]; exact seg_len b _ _
      have r38 := rd.tr (mRn.int z1 (k := 38) (by decide) (nI j))
      by_cases c4 : 6 < sWe n b j - j
      · rw [if_pos c4, if_pos (by omega), mI_eq, show (1 : Int32) = nI 1 from rfl, m_fail_v (by rw [mI_ne _ (by decide), mI_ne _ (by decide)]; exact s5), bnv_s]
        exact ⟨_, _, rfl, (r38.tr (mRn.int _ (by decide) _)).tr (mRd.flt _ _ _).rn, flt_of _ (by decide) _⟩
      · rw [if_neg c4, if_neg (by omega), nm_s, mI_eq]
        refine ⟨_, _, rfl, (r38.tr (mRn.int _ (by decide) _)).tr (mRn.int _ (by decide) _), ?_⟩
        rw [w5]
        refine ⟨by rw [w4]; rfl, ?_, ?_, ?_⟩
        · have := (show mAt n b j (wI z1 38 (nI j)) from ⟨hs.1.int (by decide) _, by rw [mI_ne _ (by decide)]; exact hs.2.1, hs.2.2.1, fun a' => by rw [mI_ne _ (show (4 : Nat) ≠ 38 by decide)]; exact hs.2.2.2.1 a', by rw [mI_ne _ (by decide)]; exact hs.2.2.2.2⟩).ed (e := sWe n b j) (by omega) (pv_we (by omega))
          exact this
        · rw [mI_ne _ (by decide), mI_ne _ (by decide), mI_ne _ (by decide)]; exact s5
        · rw [mI_ne _ (by decide), mI_ne _ (by decide), mI_eq]
end RM
