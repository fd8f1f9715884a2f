/-! PART 10: plain: the component's reader: places and signs -/
set_option maxRecDepth 100000
section SA
variable {B : Nat} (c : CZ) (h : PH)
theorem r_o : shp B 7 (c.1 7) (c.2.1 7) (c.2.2 7) = some (.inr (2, [.ref (B + 8), .int (c.1 7 1), .int (c.1 7 2), .int (c.1 7 3), .int (c.1 7 4), .int (c.1 7 5), va_rf (c.2.2 7 6), .ref B])) := rfl
theorem r_cls : pCls (mk B c h) (B + 7) = some 2 := mk_cls (o := 7) (r_o c) h
theorem r_F0 : pF (mk B c h) (B + 7) 2 0 = some (.ref (B + 8)) := mk_F (o := 7) (r_o c) rfl h
theorem r_F1 : pF (mk B c h) (B + 7) 2 1 = some (.int (cI c 7 1)) := mk_F (o := 7) (r_o c) rfl h
theorem r_F2 : pF (mk B c h) (B + 7) 2 2 = some (.int (cI c 7 2)) := mk_F (o := 7) (r_o c) rfl h
theorem r_F3 : pF (mk B c h) (B + 7) 2 3 = some (.int (cI c 7 3)) := mk_F (o := 7) (r_o c) rfl h
theorem r_F4 : pF (mk B c h) (B + 7) 2 4 = some (.int (cI c 7 4)) := mk_F (o := 7) (r_o c) rfl h
theorem r_F5 : pF (mk B c h) (B + 7) 2 5 = some (.int (cI c 7 5)) := mk_F (o := 7) (r_o c) rfl h
theorem r_F6 : pF (mk B c h) (B + 7) 2 6 = some (va_rf (cQ c 7 6)) := mk_F (o := 7) (r_o c) rfl h
theorem r_F7 : pF (mk B c h) (B + 7) 2 7 = some (.ref B) := mk_F (o := 7) (r_o c) rfl h
theorem r_pI (k : Nat) (hk : k = 1 ∨ k = 2 ∨ k = 3 ∨ k = 4 ∨ k = 5) (v : Int32) : pPut (mk B c h) (B + 7) 2 k (.int v) = some (mk B (xI c 7 k v) h) := by
  have key : ∀ k, k < 8 → shp B 7 (upd (c.1 7) k v) (c.2.1 7) (c.2.2 7) = some (.inr (2, ([.ref (B + 8), .int (c.1 7 1), .int (c.1 7 2), .int (c.1 7 3), .int (c.1 7 4), .int (c.1 7 5), va_rf (c.2.2 7 6), .ref B] : List Value).set k (.int v))) → pPut (mk B c h) (B + 7) 2 k (.int v) = some (mk B (xI c 7 k v) h) := fun k hk hh => by
    have := mk_Put (B := B) (o := 7) (ci := 2) (k := k) (v := .int v) (f := upd (c.1 7) k v) (l := c.2.1 7) (q := c.2.2 7) (r_o c) hk hh h
    rw [rw_I] at this
    exact this
  rcases hk with rfl | rfl | rfl | rfl | rfl <;> exact key _ (by decide) rfl
theorem r_p6 (v : Option Nat) : pPut (mk B c h) (B + 7) 2 6 (va_rf v) = some (mk B (xQ' c 7 6 v) h) := by
  have := mk_Put (B := B) (o := 7) (ci := 2) (k := 6) (v := va_rf v) (f := c.1 7) (l := c.2.1 7) (q := va_up (c.2.2 7) 6 v) (r_o c) (Nat.le_of_ble_eq_true rfl) rfl h
  rw [rw_Q] at this
  exact this
theorem f_o : shp B 8 (c.1 8) (c.2.1 8) (c.2.2 8) = some (.inr (3, [.null, .null, .null, .null, .null, .int 0, .int (c.1 8 6), .int (c.1 8 7)])) := rfl
theorem f_cls : pCls (mk B c h) (B + 8) = some 3 := mk_cls (o := 8) (f_o c) h
theorem f_F6 : pF (mk B c h) (B + 8) 3 6 = some (.int (cI c 8 6)) := mk_F (o := 8) (f_o c) rfl h
theorem f_F7 : pF (mk B c h) (B + 8) 3 7 = some (.int (cI c 8 7)) := mk_F (o := 8) (f_o c) rfl h
theorem f_pI (k : Nat) (hk : k = 6 ∨ k = 7) (v : Int32) : pPut (mk B c h) (B + 8) 3 k (.int v) = some (mk B (xI c 8 k v) h) := by
  have key : ∀ k, k < 8 → shp B 8 (upd (c.1 8) k v) (c.2.1 8) (c.2.2 8) = some (.inr (3, ([.null, .null, .null, .null, .null, .int 0, .int (c.1 8 6), .int (c.1 8 7)] : List Value).set k (.int v))) → pPut (mk B c h) (B + 8) 3 k (.int v) = some (mk B (xI c 8 k v) h) := fun k hk hh => by
    have := mk_Put (B := B) (o := 8) (ci := 3) (k := k) (v := .int v) (f := upd (c.1 8) k v) (l := c.2.1 8) (q := c.2.2 8) (f_o c) hk hh h
    rw [rw_I] at this
    exact this
  rcases hk with rfl | rfl <;> exact key _ (by decide) rfl
end SA
theorem xI_self (c : CZ) (o i : Nat) : xI c o i (cI c o i) = c := by
  unfold xI
  have : va_up c.1 o (upd (c.1 o) i (cI c o i)) = c.1 := by
    funext o' i'
    by_cases h : o' = o
    · subst h
      by_cases h2 : i' = i <;> simp [va_up, upd, h2, cI]
    · simp [va_up, h]
  rw [this]
theorem xI_xI (c : CZ) (o i : Nat) (u v : Int32) : xI (xI c o i u) o i v = xI c o i v := by
  unfold xI
  have : va_up (va_up c.1 o (upd (c.1 o) i u)) o (upd ((va_up c.1 o (upd (c.1 o) i u)) o) i v) = va_up c.1 o (upd (c.1 o) i v) := by
    funext o' i'
    by_cases h : o' = o
    · subst h
      by_cases h2 : i' = i <;> simp [va_up, upd, h2]
    · simp [va_up, h]
  rw [this]
/-- the text lies on the tape -/
def cTx (n : Nat) (b : Nat → Nat) (c : CZ) : Prop := n ≤ 1600 ∧ (∀ i, i < n → b i < 256 ∧ cI c 6 i = sb (b i)) ∧ cI c 7 1 = nI n
def cAt (n : Nat) (b : Nat → Nat) (a : Nat) (c : CZ) : Prop := cTx n b c ∧ cI c 7 2 = nI a ∧ a ≤ n
/-- a fault told -/
def cFlt (c : CZ) (k p : Nat) : CZ := xI (xI c 8 6 (nI k)) 8 7 (nI p)
/-- only the reader's place, start and depth, and the fault, are changed -/
def cRd (c c' : CZ) : Prop := (∀ o i, ¬ (o = 7 ∧ (i = 2 ∨ i = 3 ∨ i = 4)) → o ≠ 8 → cI c' o i = cI c o i) ∧ c'.2 = c.2
theorem cRd.rf (c : CZ) : cRd c c := ⟨fun _ _ _ _ => rfl, rfl⟩
theorem cRd.tr {c1 c2 c3 : CZ} (h : cRd c1 c2) (g : cRd c2 c3) : cRd c1 c3 := ⟨fun o i h1 h2 => (g.1 o i h1 h2).trans (h.1 o i h1 h2), g.2.trans h.2⟩
theorem cRd.at (c : CZ) {i : Nat} (hi : i = 2 ∨ i = 3 ∨ i = 4) (v : Int32) : cRd c (xI c 7 i v) := ⟨fun o j h1 _ => by rw [cI_x, if_neg (by omega)], rfl⟩
theorem cRd.ft (c : CZ) (k p : Nat) : cRd c (cFlt c k p) := ⟨fun o j _ h2 => by unfold cFlt; rw [cI_x, if_neg (by omega), cI_x, if_neg (by omega)], rfl⟩
section SB
variable {n : Nat} {b : Nat → Nat} {B a : Nat} {c : CZ} {h : PH}
theorem cTx.rd {c' : CZ} (ht : cTx n b c) (hr : cRd c c') : cTx n b c' := ⟨ht.1, fun i hi => ⟨(ht.2.1 i hi).1, by rw [hr.1 6 i (by omega) (by decide)]; exact (ht.2.1 i hi).2⟩, by rw [hr.1 7 1 (by omega) (by decide)]; exact ht.2.2⟩
theorem x_wrong (k p : Nat) : fX2_wrong (B + 7) (nI k) (nI p) (mk B c h) = some (B + 8, mk B (cFlt c k p) h) := by
  unfold fX2_wrong
  rw [r_F0, vA_s, f_pI c h 6 (Or.inl rfl), bnv_s, r_F0, vA_s, f_pI _ h 7 (Or.inr rfl), bnv_s, r_F0, vA_s]
  rfl
theorem x_rByteAt (ht : cTx n b c) (i : Nat) (hi : i < 2000) : fX2_byteAt (B + 7) (nI i) (mk B c h) = some (rI n b i, mk B c h) := by
  have hn := ht.1
  unfold fX2_byteAt rI
  rw [jn_s, if_neg (nI_pos (by omega)), r_F1, vI_s, ht.2.2]
  by_cases hc : i < n
  · rw [if_neg (nI_ge hc (by omega)), r_F7, vA_s, x0_F1, vA_s, k_tape.ld c h (inb_nI (by omega) (by decide)), ob_s, nI_c (by omega), (ht.2.1 i hc).2, sb_255 _ (ht.2.1 i hc).1, if_pos hc]
  · rw [if_pos (nI_le (by omega) (by omega)), if_neg hc]
theorem x_isLetter_r (ht : cTx n b c) (j : Nat) (y : PH) : fX0_isLetter (rI n b j) y = some (isL (rB n b j), y) := by
  unfold rI rB
  by_cases hc : j < n
  · rw [if_pos hc, if_pos hc]
    have hv := (ht.2.1 j hc).1
    unfold fX0_isLetter isL
    rw [jn_s]
    have e1 : (nI (b j) < (97 : Int32)) ↔ b j < 97 := nI_ltI (b := 97) (by omega) (by decide)
    have e2 : ((122 : Int32) < nI (b j)) ↔ 122 < b j := nI_ltI (a := 122) (by decide) (by omega)
    by_cases c1 : b j < 97
    · rw [if_pos (e1.mpr c1), decide_eq_false (by omega)]
    · rw [if_neg (fun q => c1 (e1.mp q))]
      by_cases c2 : 122 < b j
      · rw [if_pos (e2.mpr c2), decide_eq_false (by omega)]
      · rw [if_neg (fun q => c2 (e2.mp q)), decide_eq_true (by omega)]
  · rw [if_neg hc, if_neg hc]
    unfold fX0_isLetter
    rw [jn_s, if_pos (by decide)]
    rfl
theorem x_isDigit_r (ht : cTx n b c) (j : Nat) (y : PH) : fX0_isDigit (rI n b j) y = some (isD (rB n b j), y) := by
  unfold rI rB
  by_cases hc : j < n
  · rw [if_pos hc, if_pos hc]
    have hv := (ht.2.1 j hc).1
    unfold fX0_isDigit isD
    rw [jn_s]
    have e1 : (nI (b j) < (48 : Int32)) ↔ b j < 48 := nI_ltI (b := 48) (by omega) (by decide)
    have e2 : ((57 : Int32) < nI (b j)) ↔ 57 < b j := nI_ltI (a := 57) (by decide) (by omega)
    by_cases c1 : b j < 48
    · rw [if_pos (e1.mpr c1), decide_eq_false (by omega)]
    · rw [if_neg (fun q => c1 (e1.mp q))]
      by_cases c2 : 57 < b j
      · rw [if_pos (e2.mpr c2), decide_eq_false (by omega)]
      · rw [if_neg (fun q => c2 (e2.mp q)), decide_eq_true (by omega)]
  · rw [if_neg hc, if_neg hc]
    unfold fX0_isDigit
    rw [jn_s, if_pos (by decide)]
    rfl
theorem rI_eqc (ht : cTx n b c) (j : Nat) {s : Nat} (hs : s < 256) : (rI n b j = nI s) ↔ rB n b j = s := by
  unfold rI rB
  by_cases hc : j < n
  · rw [if_pos hc, if_pos hc]
    exact nI_eq (by have := (ht.2.1 j hc).1; omega) (by omega)
  · rw [if_neg hc, if_neg hc]
    constructor
    · intro q
      exact absurd q.symm (nI_nm1 (by omega))
    · intro q; omega
theorem rI_m1c (ht : cTx n b c) (j : Nat) : (rI n b j = -1) ↔ n ≤ j := by
  unfold rI
  by_cases hc : j < n
  · rw [if_pos hc]
    constructor
    · intro q
      exact absurd q (nI_nm1 (by have := (ht.2.1 j hc).1; omega))
    · intro q; omega
  · rw [if_neg hc]
    exact ⟨fun _ => by omega, fun _ => rfl⟩
theorem here_L (k : PH → Option (Int32 × PH)) (dm : PH → Option (Int32 × PH)) (h : PH) : ∀ (m a : Nat) (c : CZ), cAt n b a c → n - a < m → fx (fX2_here_L0 (B + 7) k) dm m (mk B c h) = k (mk B (xI c 7 2 (nI (sSk n b a))) h)
  | 0, a, c, _, hm => absurd hm (Nat.not_lt_zero _)
  | m + 1, a, c, ha, hm => by
    obtain ⟨ht, h2, han⟩ := ha
    have hn := ht.1
    have IH := here_L k dm h m
    rw [fx_s]
    generalize fx (fX2_here_L0 (B + 7) k) dm m = S at IH ⊢
    unfold fX2_here_L0
    rw [r_F2, vI_s, r_cls, ckc_s, h2, x_rByteAt ht a (by omega), bnd_s, jn_s]
    have go : a < n → isB (b a) = true → (vI (pF (mk B c h) (B + 7) 2 2) fun v3 => bnv (pPut (mk B c h) (B + 7) 2 2 (.int (v3 + 1))) fun h6 => S h6) = k (mk B (xI c 7 2 (nI (sSk n b a))) h) := by
      intro hc hB
      rw [r_F2, vI_s, h2, nI_1, r_pI c h 2 (by decide), bnv_s, IH (a + 1) (xI c 7 2 (nI (a + 1))) ⟨ht.rd (cRd.at c (by decide) _), by rw [cI_x, if_pos ⟨rfl, rfl⟩], hc⟩ (by omega), xI_xI, sSk_bl hc hB]
    by_cases c1 : rB n b a = 32
    · obtain ⟨b1, b2⟩ := rB_lt c1 (by decide)
      rw [if_pos (show rI n b a = 32 from (rI_eqc ht a (s := 32) (by decide)).mpr c1)]
      exact go b1 (decide_eq_true (Or.inl b2))
    · rw [if_neg (show ¬ rI n b a = 32 from fun q => c1 ((rI_eqc ht a (s := 32) (by decide)).mp q)), r_F2, vI_s, r_cls, ckc_s, h2, x_rByteAt ht a (by omega), bnd_s]
      by_cases c2 : rB n b a = 10
      · obtain ⟨b1, b2⟩ := rB_lt c2 (by decide)
        rw [if_pos (show rI n b a = 10 from (rI_eqc ht a (s := 10) (by decide)).mpr c2)]
        exact go b1 (decide_eq_true (Or.inr b2))
      · rw [if_neg (show ¬ rI n b a = 10 from fun q => c2 ((rI_eqc ht a (s := 10) (by decide)).mp q)), sSk_fix (fun hc => by
          have e : rB n b a = b a := by unfold rB; rw [if_pos hc]
          rw [e] at c1 c2
          exact decide_eq_false (fun q => q.elim c1 c2)), ← h2, xI_self]
theorem cAt.sk (ha : cAt n b a c) : cAt n b (sSk n b a) (xI c 7 2 (nI (sSk n b a))) := ⟨ha.1.rd (cRd.at c (by decide) _), by rw [cI_x, if_pos ⟨rfl, rfl⟩], sSk_le b ha.2.2⟩
theorem cAt.to (ha : cAt n b a c) {e : Nat} (he : e ≤ n) : cAt n b e (xI c 7 2 (nI e)) := ⟨ha.1.rd (cRd.at c (by decide) _), by rw [cI_x, if_pos ⟨rfl, rfl⟩], he⟩
theorem x_here (ha : cAt n b a c) : fX2_here (B + 7) (mk B c h) = some (rI n b (sSk n b a), mk B (xI c 7 2 (nI (sSk n b a))) h) := by
  have hn := ha.1.1
  have hs := ha.sk
  have hl := sSk_le b ha.2.2
  unfold fX2_here
  rw [jn_s, here_L _ _ h FU a c ha (FU_gt (by omega)), r_F2, vI_s, r_cls, ckc_s, hs.2.1, x_rByteAt hs.1 _ (by omega), bnd_s]
theorem x_takes (ha : cAt n b a c) {s : Nat} (hs : s < 256) : fX2_takes (B + 7) (nI s) (mk B c h) = some (decide (rB n b (sSk n b a) = s), mk B (xI c 7 2 (nI (if rB n b (sSk n b a) = s then sSk n b a + 1 else sSk n b a))) h) := by
  unfold fX2_takes
  rw [r_cls, ckc_s, x_here ha, bnd_s]
  simp only [jn_s]
  by_cases hc : rB n b (sSk n b a) = s
  · rw [if_pos ((rI_eqc ha.1 _ hs).mpr hc), r_F2, vI_s, if_neg (by decide), cI_x, if_pos ⟨rfl, rfl⟩, r_pI _ h 2 (by decide), bnv_s, xI_xI, if_pos hc, decide_eq_true hc]
    show some (true, mk B (xI c 7 2 (nI (sSk n b a) + 1)) h) = _
    rw [nI_1]
  · rw [if_neg (fun q => hc ((rI_eqc ha.1 _ hs).mp q)), r_F2, vI_s, if_pos (by decide), cI_x, if_pos ⟨rfl, rfl⟩, r_pI _ h 2 (by decide), bnv_s, xI_xI, if_neg hc, decide_eq_false hc]
    show some (false, mk B (xI c 7 2 (nI (sSk n b a) + 0)) h) = _
    rw [Int32.add_zero]
theorem x_must (ha : cAt n b a c) {s : Nat} (hs : s < 256) : fX2_must (B + 7) (nI s) (mk B c h) = match rMust n b s a with
    | .inl g => some (.inr (B + 8), mk B (cFlt (xI c 7 2 (nI (sSk n b a))) g.1 g.2) h)
    | .inr (_, e) => some (.inl (), mk B (xI c 7 2 (nI e)) h) := by
  unfold fX2_must rMust
  rw [r_cls, ckc_s, x_here ha, bnd_s]
  by_cases hc : rB n b (sSk n b a) = s
  · rw [if_pos ((rI_eqc ha.1 _ hs).mpr hc), if_pos hc, r_F2, vI_s, cI_x, if_pos ⟨rfl, rfl⟩, nI_1, r_pI _ h 2 (by decide), bnv_s, xI_xI]
  · rw [if_neg (fun q => hc ((rI_eqc ha.1 _ hs).mp q)), if_neg hc, r_F2, vI_s, cI_x, if_pos ⟨rfl, rfl⟩, r_cls, ckc_s, show (1 : Int32) = nI 1 from rfl, x_wrong, bnd_s]
theorem x_parted (ha : cAt n b a c) : fX2_parted (B + 7) (mk B c h) = if pv b a = true then some (.inr (B + 8), mk B (cFlt c 1 a) h) else some (.inl (), mk B c h) := by
  have hn := ha.1.1
  unfold fX2_parted
  rw [r_F2, vI_s, r_cls, ckc_s, ha.2.1]
  simp only [jn_s]
  unfold pv
  by_cases h0 : a = 0
  · have e : fX2_byteAt (B + 7) (nI a - 1) (mk B c h) = some (-1, mk B c h) := by
      unfold fX2_byteAt
      rw [jn_s, h0, if_pos (by decide)]
    have l : fX0_isLetter (-1) (mk B c h) = some (false, mk B c h) := by
      unfold fX0_isLetter
      rw [jn_s, if_pos (by decide)]
    have d : fX0_isDigit (-1) (mk B c h) = some (false, mk B c h) := by
      unfold fX0_isDigit
      rw [jn_s, if_pos (by decide)]
    rw [e, bnd_s, l, bnd_s, if_pos (by decide), r_F2, vI_s, r_cls, ckc_s, ha.2.1, e, bnd_s, d, bnd_s, if_pos (by decide), h0, if_neg (by simp)]
  · have hlt : a - 1 < n := by have := ha.2.2; omega
    have er : rB n b (a - 1) = b (a - 1) := by unfold rB; rw [if_pos hlt]
    rw [nI_m1 (by omega), x_rByteAt ha.1 _ (by omega), bnd_s, x_isLetter_r ha.1, bnd_s, er, decide_eq_true (show 0 < a by omega)]
    have bad : (vI (pF (mk B c h) (B + 7) 2 2) fun v2 => ckc (pCls (mk B c h) (B + 7)) 2 <| bnd (fX2_wrong (B + 7) 1 v2 (mk B c h)) fun p1 h4 => (some (.inr p1, h4) : Option ((Unit ⊕ Nat) × PH))) = some (.inr (B + 8), mk B (cFlt c 1 a) h) := by
      rw [r_F2, vI_s, r_cls, ckc_s, ha.2.1, show (1 : Int32) = nI 1 from rfl, x_wrong, bnd_s]
    cases cl : isL (b (a - 1)) with
    | true =>
      rw [if_neg (show ¬ bI true = 0 by decide), if_pos (show (true && (true || isD (b (a - 1)))) = true from rfl)]
      exact bad
    | false =>
      rw [if_pos (show bI false = 0 by decide), r_F2, vI_s, r_cls, ckc_s, ha.2.1, nI_m1 (by omega), x_rByteAt ha.1 _ (by omega), bnd_s, x_isDigit_r ha.1, bnd_s, er]
      cases cd : isD (b (a - 1)) with
      | true =>
        rw [if_neg (show ¬ bI true = 0 by decide), if_pos (show (true && (false || true)) = true from rfl)]
        exact bad
      | false => rw [if_pos (show bI false = 0 by decide), if_neg (by decide)]
theorem x_opens (p d : Nat) (hd : d ≤ 6) (h4 : cI c 7 4 = nI d) : fX2_opens (B + 7) (nI p) (mk B c h) = if d = 6 then some (.inr (B + 8), mk B (cFlt c 4 p) h) else some (.inl (), mk B (xI c 7 4 (nI (d + 1))) h) := by
  have e6 : (nI d = (6 : Int32)) ↔ d = 6 := nI_eq (b := 6) (by omega) (by decide)
  unfold fX2_opens
  rw [r_F4, vI_s, h4]
  by_cases c6 : d = 6
  · rw [if_pos (e6.mpr c6), if_pos c6, r_cls, ckc_s, show (4 : Int32) = nI 4 from rfl, x_wrong, bnd_s]
  · rw [if_neg (fun q => c6 (e6.mp q)), if_neg c6, vI_s, nI_1, r_pI c h 4 (by decide), bnv_s]
theorem x_most (x : Bool) (p : Nat) : fX2_most (B + 7) x (nI p) (mk B c h) = if x = true then some (.inr (B + 8), mk B (cFlt c 5 p) h) else some (.inl (), mk B c h) := by
  unfold fX2_most
  cases x with
  | false => rw [if_pos (by decide), if_neg (by decide)]
  | true => rw [if_neg (by decide), if_pos rfl, r_cls, ckc_s, show (5 : Int32) = nI 5 from rfl, x_wrong, bnd_s]
end SB
