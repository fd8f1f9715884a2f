/-! PART 11: plain: the component reads numbers; the heap grows -/
set_option maxRecDepth 100000
section SC
variable {n : Nat} {b : Nat → Nat} {B a : Nat} {c : CZ} {h : PH}
theorem cI_xI_ne (c : CZ) {o i o' i' : Nat} (hn : ¬ (o' = o ∧ i' = i)) (v : Int32) : cI (xI c o i v) o' i' = cI c o' i' := by rw [cI_x, if_neg hn]
theorem cI_xI_eq (c : CZ) (o i : Nat) (v : Int32) : cI (xI c o i v) o i = v := by rw [cI_x, if_pos ⟨rfl, rfl⟩]
/-- two numbers of the reader are written in any order -/
theorem xI_comm (c : CZ) {o i o' i' : Nat} (hn : ¬ (o' = o ∧ i' = i)) (u v : Int32) : xI (xI c o i u) o' i' v = xI (xI c o' i' v) o i u := by
  have e : ∀ x y : CZ, (∀ p q, cI x p q = cI y p q) → x.2 = y.2 → x = y := by
    intro x y h1 h2
    obtain ⟨x1, x2⟩ := x
    obtain ⟨y1, y2⟩ := y
    have h1 : x1 = y1 := by funext p q; exact h1 p q
    have h2 : x2 = y2 := h2
    rw [h1, h2]
  apply e
  · intro p q
    rw [cI_x, cI_x, cI_x, cI_x]
    by_cases c1 : p = o' ∧ q = i'
    · rw [if_pos c1, if_neg (by rintro ⟨r1, r2⟩; exact hn ⟨by omega, by omega⟩), if_pos c1]
    · rw [if_neg c1, if_neg c1]
  · rfl
theorem cnum_L (h : PH) {j : Nat} (k101 : Int32 → PH → Option ((Int32 ⊕ Nat) × PH)) (k61 : PH → Option ((Int32 ⊕ Nat) × PH)) (dm : Int32 → PH → Option ((Int32 ⊕ Nat) × PH)) : ∀ (m i v : Nat) (c : CZ), cAt n b i c → cI c 7 3 = nI j → j ≤ i → i ≤ j + 4 → n - i < m →
    fx (fX2_number_2_L34 (B + 7) k101 k61) dm m (nI v) (mk B c h) = if 4 < sDe n b i - j then k61 (mk B (xI c 7 2 (nI (j + 4))) h) else k101 (nI (numV b (sDe n b i - i) i v)) (mk B (xI c 7 2 (nI (sDe n b i))) h)
  | 0, i, v, c, _, _, _, _, hm => absurd hm (Nat.not_lt_zero _)
  | m + 1, i, v, c, ha, h3, hji, hi4, hm => by
    obtain ⟨ht, h2, hin⟩ := ha
    have hn := ht.1
    have IH := cnum_L h (j := j) k101 k61 dm m
    rw [fx_s]
    generalize fx (fX2_number_2_L34 (B + 7) k101 k61) dm m = S at IH ⊢
    unfold fX2_number_2_L34
    rw [r_F2, vI_s, r_cls, ckc_s, h2, x_rByteAt ht i (by omega), bnd_s, x_isDigit_r ht, bnd_s]
    have e : sDe n b i = if isD (rB n b i) = true then sDe n b (i + 1) else i := by
      unfold sDe rB
      by_cases hc : i < n
      · rw [if_pos hc, show n - i = (n - (i + 1)) + 1 by omega]
        rfl
      · rw [if_neg hc, show n - i = 0 by omega]
        rfl
    cases q : isD (rB n b i) with
    | false =>
      rw [q, if_neg (by decide)] at e
      rw [if_pos (by decide), e, Nat.sub_self, if_neg (by omega), ← h2, xI_self]
      rfl
    | true =>
      rw [q, if_pos rfl] at e
      obtain ⟨g1, g2⟩ := isD_lt q
      have e1 := sDe_gt g1 g2
      have er : rI n b i = nI (b i) := by unfold rI; rw [if_pos g1]
      have e4 : (nI (i - j) = (4 : Int32)) ↔ i - j = 4 := nI_eq (b := 4) (by omega) (by decide)
      rw [if_neg (by decide), r_F2, vI_s, r_F3, vI_s, h2, h3, nI_sub hji]
      by_cases c4 : i - j = 4
      · rw [if_pos (e4.mpr c4), if_pos (by omega), show j + 4 = i by omega, ← h2, xI_self]
      · rw [if_neg (fun q => c4 (e4.mp q)), vI_s, r_cls, ckc_s, x_rByteAt ht i (by omega), bnd_s, r_F2, vI_s, h2, nI_1, r_pI c h 2 (by decide), bnv_s, er]
        have hd := of_decide_eq_true g2
        have ev : (10 : Int32) * nI v + nI (b i) - 48 = nI (10 * v + b i - 48) := by rw [show (10 : Int32) = nI 10 from rfl, nI_mul, nI_add, show (48 : Int32) = nI 48 from rfl, nI_sub (by omega)]
        rw [ev, IH (i + 1) (10 * v + b i - 48) (xI c 7 2 (nI (i + 1))) ⟨ht.rd (cRd.at c (by decide) _), cI_xI_eq _ _ _ _, g1⟩ (by rw [cI_xI_ne _ (by omega)]; exact h3) (by omega) (by omega) (by omega), xI_xI, xI_xI, ← e]
        rw [show numV b (sDe n b i - i) i v = numV b (sDe n b i - (i + 1)) (i + 1) (10 * v + b i - 48) by
          rw [show sDe n b i - i = (sDe n b i - (i + 1)) + 1 by omega]
          rfl]
theorem x_number2_e (ha : cAt n b a c) {lo hi : Nat} (hlo : lo < 10000) (hhi : hi < 10000) : fX2_number_2 (B + 7) (nI lo) (nI hi) (mk B c h) =
    if isD (rB n b (sSk n b a)) = true ∧ pv b (sSk n b a) = false then
      (if 4 < sDe n b (sSk n b a) - sSk n b a then some (.inr (B + 8), mk B (cFlt (xI (xI (xI c 7 2 (nI (sSk n b a))) 7 3 (nI (sSk n b a))) 7 2 (nI (sSk n b a + 4))) 1 (sSk n b a + 4)) h)
       else if lo ≤ numV b (sDe n b (sSk n b a) - sSk n b a) (sSk n b a) 0 ∧ numV b (sDe n b (sSk n b a) - sSk n b a) (sSk n b a) 0 ≤ hi then some (.inl (nI (numV b (sDe n b (sSk n b a) - sSk n b a) (sSk n b a) 0)), mk B (xI (xI (xI c 7 2 (nI (sSk n b a))) 7 3 (nI (sSk n b a))) 7 2 (nI (sDe n b (sSk n b a)))) h)
       else some (.inr (B + 8), mk B (cFlt (xI (xI (xI c 7 2 (nI (sSk n b a))) 7 3 (nI (sSk n b a))) 7 2 (nI (sDe n b (sSk n b a)))) 2 (sSk n b a)) h))
    else some (.inr (B + 8), mk B (cFlt (xI c 7 2 (nI (sSk n b a))) 1 (sSk n b a)) h) := by
  have hs := ha.sk
  have hn := ha.1.1
  unfold fX2_number_2
  rw [r_cls, ckc_s, x_here ha, bnd_s, x_isDigit_r ha.1, bnd_s]
  generalize xI c 7 2 (nI (sSk n b a)) = c1 at hs
  generalize sSk n b a = j at hs
  cases c1' : isD (rB n b j) with
  | false => rw [if_pos (show bI false = 0 by decide), if_neg (fun q => by cases q.1), r_F2, vI_s, hs.2.1, r_cls, ckc_s, show (1 : Int32) = nI 1 from rfl, x_wrong, bnd_s]
  | true =>
  rw [if_neg (show ¬ bI true = 0 by decide), r_cls, ckc_s, x_parted hs]
  by_cases c2 : pv b j = true
  · rw [if_pos c2, if_neg (fun q => by rw [c2] at q; cases q.2)]
    rfl
  · have c3 : pv b j = false := by cases q : pv b j <;> simp_all
    obtain ⟨g1, g2⟩ := isD_lt c1'
    obtain ⟨g3, g4⟩ := sDe_gt g1 g2
    have a3 : cAt n b j (xI c1 7 3 (nI j)) := ⟨hs.1.rd (cRd.at c1 (by decide) _), by rw [cI_xI_ne _ (by omega)]; exact hs.2.1, hs.2.2⟩
    have s33 : cI (xI c1 7 3 (nI j)) 7 3 = nI j := cI_xI_eq _ _ _ _
    rw [if_neg c2, if_pos ⟨rfl, c3⟩]
    show (vI (pF (mk B c1 h) (B + 7) 2 2) fun v1 => _) = _
    rw [r_F2, vI_s, hs.2.1, r_pI c1 h 3 (by decide), bnv_s]
    simp only [jn_s]
    rw [show fx (fX2_number_2_L34 (B + 7) _ _) (fun _ _ => none) FU 0 (mk B (xI c1 7 3 (nI j)) h) = _ from cnum_L h _ _ (fun _ _ => none) FU j 0 (xI c1 7 3 (nI j)) a3 s33 (Nat.le_refl _) (by omega) (FU_gt (by omega))]
    by_cases c4 : 4 < sDe n b j - j
    · rw [if_pos c4, if_pos c4, r_F2, vI_s, cI_xI_eq, r_cls, ckc_s, show (1 : Int32) = nI 1 from rfl, x_wrong, bnd_s]
    · rw [if_neg c4, if_neg c4]
      have hv := numV_lt (b := b) (sDe n b j - j) j 0 (fun k hk => sWhF_in isD b (n - j) j (j + k) (by omega) (by show _ < sDe n b j; omega))
      have hv2 : numV b (sDe n b j - j) j 0 < 10000 := by
        have : 10 ^ (sDe n b j - j) ≤ 10 ^ 4 := Nat.pow_le_pow_right (by decide) (by omega)
        omega
      generalize numV b (sDe n b j - j) j 0 = v at hv2
      have eis : ∀ y : PH, fX0_is (nI v) (nI lo) (nI hi) y = some (decide (lo ≤ v ∧ v ≤ hi), y) := by
        intro y
        unfold fX0_is
        rw [jn_s]
        by_cases k1 : v < lo
        · rw [if_pos (nI_lt k1 (by omega)), decide_eq_false (by omega)]
        · rw [if_neg (nI_nlt (by omega) (by omega))]
          by_cases k2 : hi < v
          · rw [if_pos (nI_lt k2 (by omega)), decide_eq_false (by omega)]
          · rw [if_neg (nI_nlt (by omega) (by omega)), decide_eq_true (by omega)]
      rw [eis, bnd_s]
      by_cases c5 : lo ≤ v ∧ v ≤ hi
      · rw [decide_eq_true c5, if_neg (show ¬ bI true = 0 by decide), if_pos c5]
      · rw [decide_eq_false c5, if_pos (show bI false = 0 by decide), if_neg c5, r_F3, vI_s, cI_xI_ne _ (by omega), s33, r_cls, ckc_s, show (2 : Int32) = nI 2 from rfl, x_wrong, bnd_s]
/-- what a reading leaves: c' with the place, or a fault -/
def cPo (n : Nat) (b : Nat → Nat) (c c' : CZ) (g : Nat × Nat) : Prop := cRd c c' ∧ cI c' 8 6 = nI g.1 ∧ cI c' 8 7 = nI g.2
theorem cFlt_po {c c1 : CZ} (hr : cRd c c1) (k p : Nat) : cPo n b c (cFlt c1 k p) (k, p) := by
  refine ⟨hr.tr (cRd.ft _ _ _), ?_, ?_⟩
  · unfold cFlt
    rw [cI_xI_ne _ (by omega), cI_xI_eq]
  · unfold cFlt
    rw [cI_xI_eq]
theorem x_number2 (ha : cAt n b a c) {lo hi : Nat} (hlo : lo < 10000) (hhi : hi < 10000) : match rNum n b lo hi a with
    | .inl g => ∃ c', fX2_number_2 (B + 7) (nI lo) (nI hi) (mk B c h) = some (.inr (B + 8), mk B c' h) ∧ cPo n b c c' g
    | .inr (v, e) => ∃ c', fX2_number_2 (B + 7) (nI lo) (nI hi) (mk B c h) = some (.inl (nI v), mk B c' h) ∧ cRd c c' ∧ cI c' 7 4 = cI c 7 4 ∧ cAt n b e c' := by
  have E := x_number2_e (B := B) (h := h) ha hlo hhi
  have hs := ha.sk
  have rd2 := cRd.at c (i := 2) (by decide) (nI (sSk n b a))
  have rd3 := rd2.tr (cRd.at (xI c 7 2 (nI (sSk n b a))) (i := 3) (by decide) (nI (sSk n b a)))
  unfold rNum rNumJ
  by_cases c1 : isD (rB n b (sSk n b a)) = true ∧ pv b (sSk n b a) = false
  · rw [if_pos c1] at E ⊢
    obtain ⟨g1, g2⟩ := isD_lt c1.1
    obtain ⟨g3, g4⟩ := sDe_gt g1 g2
    by_cases c4 : 4 < sDe n b (sSk n b a) - sSk n b a
    · rw [if_pos c4] at E ⊢
      exact ⟨_, E, cFlt_po (rd3.tr (cRd.at _ (by decide) _)) _ _⟩
    · rw [if_neg c4] at E ⊢
      by_cases c5 : lo ≤ numV b (sDe n b (sSk n b a) - sSk n b a) (sSk n b a) 0 ∧ numV b (sDe n b (sSk n b a) - sSk n b a) (sSk n b a) 0 ≤ hi
      · rw [if_pos c5] at E ⊢
        refine ⟨_, E, rd3.tr (cRd.at _ (by decide) _), ?_, ?_⟩
        · rw [cI_xI_ne _ (by omega), cI_xI_ne _ (by omega), cI_xI_ne _ (by omega)]
        · exact ⟨(hs.1.rd (cRd.at _ (by decide) _)).rd (cRd.at _ (by decide) _), cI_xI_eq _ _ _ _, g4⟩
      · rw [if_neg c5] at E ⊢
        exact ⟨_, E, cFlt_po (rd3.tr (cRd.at _ (by decide) _)) _ _⟩
  · rw [if_neg c1] at E ⊢
    exact ⟨_, E, cFlt_po rd2 _ _⟩
end SC
