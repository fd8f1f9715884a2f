/-! PART 12: plain: the heap grows; a word becomes a text -/
set_option maxRecDepth 100000
def hNew (h : PH) (e : PE) (n : Nat) : PH := (h.1 + 1, h.2.1 + n, va_up h.2.2 h.1 (some (true, e)))
/-- the heap lies behind the component, and nothing lies behind its end -/
def hW (B : Nat) (h : PH) : Prop := B + 841 ≤ h.1 ∧ ∀ a, h.1 ≤ a → h.2.2 a = none
section SD
variable {B : Nat} {c : CZ} {h : PH}
theorem mk_new {cap : Nat × Nat} (hB : B + 841 ≤ h.1) {e : PE} {n : Nat} (h1 : h.1 + 1 ≤ cap.1) (h2 : h.2.1 + n ≤ cap.2) : pNew cap (mk B c h) e n = some (h.1, mk B c (hNew h e n)) := by
  have e0 : pNew cap (mk B c h) e n = if h.1 + 1 ≤ cap.1 ∧ h.2.1 + n ≤ cap.2 then some (h.1, (h.1 + 1, h.2.1 + n, va_up (mk B c h).2.2 h.1 (some (true, e)))) else none := rfl
  rw [e0, if_pos ⟨h1, h2⟩]
  congr 2
  show (h.1 + 1, h.2.1 + n, _) = (h.1 + 1, h.2.1 + n, _)
  congr 2
  funext a
  by_cases c1 : a = h.1
  · subst c1
    rw [va_up_self]
    refine ((mk_out (B := B) (a := h.1) (Or.inr (Or.inr hB)) c (hNew h e n)).trans ?_).symm
    show va_up h.2.2 h.1 (some (true, e)) h.1 = _
    rw [va_up_self]
  · rw [va_up_ne _ _ c1]
    show (if B ≤ a then (match shp B (a - B) (c.1 (a - B)) (c.2.1 (a - B)) (c.2.2 (a - B)) with | some e => some (true, e) | none => h.2.2 a) else h.2.2 a) = (if B ≤ a then (match shp B (a - B) (c.1 (a - B)) (c.2.1 (a - B)) (c.2.2 (a - B)) with | some e => some (true, e) | none => va_up h.2.2 h.1 (some (true, e)) a) else va_up h.2.2 h.1 (some (true, e)) a)
    rw [va_up_ne _ _ c1]
theorem mk_pE {a : Nat} (ho : outB B a) (e : PE) : pPutE (mk B c h) a e = mk B c (pPutE h a e) := by
  unfold pPutE
  show (h.1, h.2.1, va_up (mk B c h).2.2 a (some (true, e))) = (h.1, h.2.1, _)
  congr 2
  funext x
  by_cases c1 : x = a
  · subst c1
    rw [va_up_self]
    refine ((mk_out ho c (h.1, h.2.1, va_up h.2.2 x (some (true, e)))).trans ?_).symm
    show va_up h.2.2 x (some (true, e)) x = _
    rw [va_up_self]
  · rw [va_up_ne _ _ c1]
    show (if B ≤ x then (match shp B (x - B) (c.1 (x - B)) (c.2.1 (x - B)) (c.2.2 (x - B)) with | some e => some (true, e) | none => h.2.2 x) else h.2.2 x) = (if B ≤ x then (match shp B (x - B) (c.1 (x - B)) (c.2.1 (x - B)) (c.2.2 (x - B)) with | some e => some (true, e) | none => va_up h.2.2 a (some (true, e)) x) else va_up h.2.2 a (some (true, e)) x)
    rw [va_up_ne _ _ c1]
theorem mk_pSt {a kd n : Nat} (ho : outB B a) {f : Nat → Int32} (hc : h.2.2 a = some (true, .inl (kd, n, .inl f))) {i v : Int32} (hi : inb i n = true) : pSt (mk B c h) a kd i v = some (mk B c (pPutE h a (.inl (kd, n, .inl (upd f i.toNatClampNeg v))))) := by
  unfold pSt
  rw [mk_out ho c h, hc]
  show (if kd = kd ∧ inb i n = true then _ else _) = _
  rw [if_pos ⟨rfl, hi⟩, mk_pE ho]
theorem mk_pO {a ci k : Nat} (ho : outB B a) {fs : List Value} (hc : h.2.2 a = some (true, .inr (ci, fs))) (hk : k < fs.length) (v : Value) : pPut (mk B c h) a ci k v = some (mk B c (pPutE h a (.inr (ci, fs.set k v)))) := by
  unfold pPut
  rw [mk_out ho c h, hc]
  show (if ci = ci ∧ k < fs.length then _ else _) = _
  rw [if_pos ⟨rfl, hk⟩]
  exact congrArg some (mk_pE ho _)
theorem pE_at (h : PH) (a : Nat) (e : PE) : (pPutE h a e).2.2 a = some (true, e) := by
  show va_up h.2.2 a (some (true, e)) a = _
  rw [va_up_self]
theorem pE_ne (h : PH) {a x : Nat} (hx : x ≠ a) (e : PE) : (pPutE h a e).2.2 x = h.2.2 x := by
  show va_up h.2.2 a (some (true, e)) x = _
  rw [va_up_ne _ _ hx]
theorem pE_pE (h : PH) (a : Nat) (e e' : PE) : pPutE (pPutE h a e) a e' = pPutE h a e' := by
  unfold pPutE
  show (h.1, h.2.1, va_up (va_up h.2.2 a (some (true, e))) a (some (true, e'))) = _
  congr 2
  funext x
  by_cases c1 : x = a
  · rw [c1, va_up_self, va_up_self]
  · rw [va_up_ne _ _ c1, va_up_ne _ _ c1, va_up_ne _ _ c1]
theorem hN_at (h : PH) (e : PE) (n : Nat) : (hNew h e n).2.2 h.1 = some (true, e) := by
  show va_up h.2.2 h.1 (some (true, e)) h.1 = _
  rw [va_up_self]
theorem hN_ne (h : PH) (e : PE) (n : Nat) {x : Nat} (hx : x ≠ h.1) : (hNew h e n).2.2 x = h.2.2 x := by
  show va_up h.2.2 h.1 (some (true, e)) x = _
  rw [va_up_ne _ _ hx]
theorem hN_E (h : PH) (e e' : PE) (n : Nat) : pPutE (hNew h e n) h.1 e' = hNew h e' n := by
  unfold pPutE hNew
  show (h.1 + 1, h.2.1 + n, va_up (va_up h.2.2 h.1 (some (true, e))) h.1 (some (true, e'))) = _
  congr 2
  funext x
  by_cases c1 : x = h.1
  · rw [c1, va_up_self, va_up_self]
  · rw [va_up_ne _ _ c1, va_up_ne _ _ c1, va_up_ne _ _ c1]
theorem hW.new (hw : hW B h) (e : PE) (n : Nat) : hW B (hNew h e n) := by
  have h1 := hw.1
  refine ⟨by show B + 841 ≤ h.1 + 1; omega, fun a ha => ?_⟩
  have ha : h.1 + 1 ≤ a := ha
  rw [hN_ne h e n (by omega)]
  exact hw.2 a (by omega)
end SD
/-- what grew: new cells, the old ones as they were -/
def hGr (h h' : PH) : Prop := h.1 ≤ h'.1 ∧ h.2.1 ≤ h'.2.1 ∧ ∀ a, a < h.1 → h'.2.2 a = h.2.2 a
theorem hGr.rf (h : PH) : hGr h h := ⟨Nat.le_refl _, Nat.le_refl _, fun _ _ => rfl⟩
theorem hGr.tr {h1 h2 h3 : PH} (p : hGr h1 h2) (q : hGr h2 h3) : hGr h1 h3 := ⟨Nat.le_trans p.1 q.1, Nat.le_trans p.2.1 q.2.1, fun a ha => (q.2.2 a (Nat.lt_of_lt_of_le ha p.1)).trans (p.2.2 a ha)⟩
theorem hGr.new (h : PH) (e : PE) (n : Nat) : hGr h (hNew h e n) := ⟨Nat.le_succ _, Nat.le_add_right _ _, fun a ha => hN_ne h e n (by omega)⟩
theorem hGr.put {h h1 : PH} (p : hGr h h1) {a : Nat} (ha : h.1 ≤ a) (e : PE) : hGr h (pPutE h1 a e) := ⟨p.1, p.2.1, fun x hx => by rw [pE_ne h1 (by omega)]; exact p.2.2 x hx⟩
theorem hW.put {B : Nat} {h : PH} (hw : hW B h) {a : Nat} (ha : a < h.1) (e : PE) : hW B (pPutE h a e) := ⟨hw.1, fun x hx => by
  have hx : h.1 ≤ x := hx
  rw [pE_ne h (by omega)]
  exact hw.2 x hx⟩
/-- the text at a tells the bytes w (below 128) -/
def wsP (h : PH) (a : Nat) (w : List Nat) : Prop := ∃ (b1 b2 : Bool) (x y : Int32) (ba : Nat) (f : Nat → Int32), h.2.2 a = some (b1, .inr (22, [.ref ba, .int 0, .int x, .int y])) ∧ h.2.2 ba = some (b2, .inl (2, w.length, .inl f)) ∧ ∀ i, i < w.length → f i = nI (w.getD i 0)
section SE
variable {n : Nat} {b : Nat → Nat} {B : Nat} {D : PD} {cap : Nat × Nat}
theorem word_L32 (h : PH) (k : PH → Option ((Nat ⊕ Nat) × PH)) (dm : PH → Option ((Nat ⊕ Nat) × PH)) : ∀ (m i : Nat) (c : CZ), cAt n b i c → n - i < m → fx (fX2_word_L32 (B + 7) k) dm m (mk B c h) = k (mk B (xI c 7 2 (nI (sWe n b i))) h)
  | 0, i, c, _, hm => absurd hm (Nat.not_lt_zero _)
  | m + 1, i, c, ha, hm => by
    obtain ⟨ht, h2, hin⟩ := ha
    have hn := ht.1
    have IH := word_L32 h k dm m
    rw [fx_s]
    generalize fx (fX2_word_L32 (B + 7) k) dm m = S at IH ⊢
    unfold fX2_word_L32
    rw [r_F2, vI_s, r_cls, ckc_s, h2, x_rByteAt ht i (by omega), bnd_s, x_isLetter_r ht, bnd_s]
    have e : sWe n b i = if isL (rB n b i) = true then sWe n b (i + 1) else i := by
      unfold sWe rB
      by_cases hc : i < n
      · rw [if_pos hc, show n - i = (n - (i + 1)) + 1 by omega]
        rfl
      · rw [if_neg hc, show n - i = 0 by omega]
        rfl
    cases q : isL (rB n b i) with
    | false =>
      rw [q, if_neg (by decide)] at e
      rw [if_pos (by decide), e, ← h2, xI_self]
    | true =>
      rw [q, if_pos rfl] at e
      obtain ⟨g1, g2⟩ := isL_lt q
      rw [if_neg (by decide), r_F2, vI_s, h2, nI_1, r_pI c h 2 (by decide), bnv_s, IH (i + 1) (xI c 7 2 (nI (i + 1))) ⟨ht.rd (cRd.at c (by decide) _), cI_xI_eq _ _ _ _, g1⟩ (by omega), xI_xI, ← e]
theorem chr_n : ∀ x, x < 128 → vp_nar .char ((Int32.toUInt32 (nI x) % 65536).toInt32) = nI x := by decide +kernel
theorem byt_n : ∀ x, x < 128 → vp_nar .byte ((Int32.toInt8 (nI x)).toInt32) = nI x := by decide +kernel
theorem sb_lo {x : Nat} (h : x < 128) : sb x = nI x := by unfold sb; rw [if_pos h]
/-- the bytes from j on, up to i, else 0 -/
def wrF (b : Nat → Nat) (j i : Nat) : Nat → Int32 := fun k => if j + k < i then nI (b (j + k)) else 0
theorem wrF_up (b : Nat → Nat) {j i : Nat} (hji : j ≤ i) : upd (wrF b j i) (i - j) (nI (b i)) = wrF b j (i + 1) := by
  funext k
  unfold upd wrF
  by_cases c1 : k = i - j
  · rw [if_pos c1, if_pos (by omega), c1, show j + (i - j) = i by omega]
  · rw [if_neg c1]
    by_cases c2 : j + k < i
    · rw [if_pos c2, if_pos (by omega)]
    · rw [if_neg c2, if_neg (by omega)]
theorem word_L76 {c : CZ} {h : PH} (hB : B + 841 ≤ h.1) (ht : cTx n b c) {j e : Nat} (h3 : cI c 7 3 = nI j) (h2 : cI c 7 2 = nI e) (hje : j ≤ e) (he : e ≤ n) (hl : ∀ i, j ≤ i → i < e → isL (b i) = true) (s : Nat) (k : PH → Option ((Nat ⊕ Nat) × PH)) (dm : Int32 → PH → Option ((Nat ⊕ Nat) × PH)) : ∀ (m i : Nat), j ≤ i → i ≤ e → e - i < m →
    fx (fX2_word_L76 (B + 7) h.1 k) dm m (nI i) (mk B c (hNew h (.inl (3, e - j, .inl (wrF b j i))) s)) = k (mk B c (hNew h (.inl (3, e - j, .inl (wrF b j e))) s))
  | 0, i, _, _, hm => absurd hm (Nat.not_lt_zero _)
  | m + 1, i, hji, hie, hm => by
    have hn := ht.1
    have IH := word_L76 hB ht h3 h2 hje he hl s k dm m
    rw [fx_s]
    generalize fx (fX2_word_L76 (B + 7) h.1 k) dm m = S at IH ⊢
    unfold fX2_word_L76
    rw [r_F2, vI_s, h2]
    by_cases ci : i < e
    · have hb := of_decide_eq_true (hl i hji ci)
      rw [if_neg (nI_ge ci (by omega)), r_F3, vI_s, h3, r_F7, vA_s, x0_F1, vA_s, k_tape.ld c _ (inb_nI (by omega) (by decide)), ob_s, nI_c (show i < 2 ^ 31 by omega), (ht.2.1 i (by omega)).2, sb_lo (by omega), chr_n _ (by omega), nI_sub hji, mk_pSt (Or.inr (Or.inr hB)) (hN_at h _ s) (inb_nI (by omega) (by omega)), bnv_s, nI_c (show i - j < 2 ^ 31 by omega), hN_E, wrF_up b hji, nI_1]
      exact IH (i + 1) (by omega) ci (by omega)
    · have ei : i = e := by omega
      rw [if_pos (nI_le (by omega) (by omega)), ei]
theorem comp_L {c : CZ} {h : PH} (hB : B + 841 ≤ h.1) {p len : Nat} {f : Nat → Int32} {w : Nat → Nat} (hp : p < h.1) (hpo : outB B p) (hc : h.2.2 p = some (true, .inl (3, len, .inl f))) (hf : ∀ i, i < len → f i = nI (w i) ∧ w i < 128) (hlen : len ≤ 100000) (s : Nat) (dm : Int32 → Int32 → Int32 → PH → Option (Int32 × PH)) : ∀ (m i : Nat), i ≤ len → len - i < m →
    fx (fJ7_compress_2_L3 p h.1 (nI len)) dm m (nI i) (nI i) (nI i) (mk B c (hNew h (.inl (2, len, .inl (wrF w 0 i))) s)) = some (nI len, mk B c (hNew h (.inl (2, len, .inl (wrF w 0 len))) s))
  | 0, i, _, hm => absurd hm (Nat.not_lt_zero _)
  | m + 1, i, hi, hm => by
    have IH := comp_L (c := c) hB hp hpo hc hf hlen s dm m
    rw [fx_s]
    generalize fx (fJ7_compress_2_L3 p h.1 (nI len)) dm m = S at IH ⊢
    unfold fJ7_compress_2_L3
    by_cases ci : i < len
    · obtain ⟨q1, q2⟩ := hf i ci
      have ld : pLd (mk B c (hNew h (.inl (2, len, .inl (wrF w 0 i))) s)) p 3 (nI i) = some (f i) := pLd_of (b := true) (by rw [mk_out hpo, hN_ne _ _ _ (by omega)]; exact hc) ci (by omega)
      rw [if_neg (nI_ge ci (by omega)), ld, ob_s, q1, if_pos (show nI (w i) ≤ 255 from nI_le (b := 255) (by omega) (by decide)), byt_n _ q2, mk_pSt (Or.inr (Or.inr hB)) (hN_at h _ s) (inb_nI ci (by omega)), bnv_s, nI_c (show i < 2 ^ 31 by omega), hN_E]
      have e := wrF_up w (Nat.zero_le i)
      rw [Nat.sub_zero] at e
      rw [e, nI_1]
      exact IH (i + 1) ci (by omega)
    · have ei : i = len := by omega
      rw [if_pos (nI_le (by omega) (by omega)), ei]
theorem cod_0 {c : CZ} {h : PH} {p len : Nat} {f : Nat → Int32} {bb : Bool} (hpo : outB B p) (hc : h.2.2 p = some (bb, .inl (2, len, .inl f))) : fJ7_coderFromArrayLen p (nI len) (mk B c h) = some (0, mk B c h) := by
  unfold fJ7_coderFromArrayLen
  rw [pArr_of (b := bb) (x := (len, .inl f)) (by rw [mk_out hpo]; exact hc), ob_s]
  show ck (decide (vp_nar .byte ((Int32.toInt8 (((nI len - nI len).toUInt32 >>> (Int32.toUInt32 31 &&& Int32.toUInt32 31)).toInt32)).toInt32) = ((Int32.toInt8 (((nI len - nI len).toUInt32 >>> (Int32.toUInt32 31 &&& Int32.toUInt32 31)).toInt32)).toInt32))) (some (((Int32.toInt8 (((nI len - nI len).toUInt32 >>> (Int32.toUInt32 31 &&& Int32.toUInt32 31)).toInt32)).toInt32), mk B c h)) = _
  rw [Int32.sub_self, ck_t (by decide)]
  congr 2
end SE
