/-! PART 13: plain: a word read, as a text -/
set_option maxRecDepth 100000
theorem seg_getD (b : Nat → Nat) : ∀ (m j i : Nat), i < m → (seg b j m).getD i 0 = b (j + i)
  | 0, j, i, hi => absurd hi (Nat.not_lt_zero _)
  | m + 1, j, 0, _ => rfl
  | m + 1, j, i + 1, hi => by
    show (seg b (j + 1) m).getD i 0 = b (j + (i + 1))
    rw [seg_getD b m (j + 1) i (by omega), show j + 1 + i = j + (i + 1) by omega]
/-- a fresh text: its cell, its bytes -/
def wsN (h : PH) (a : Nat) (w : List Nat) : Prop := h.2.2 a = some (true, .inr (22, [.ref (a + 1), .int 0, .int 0, .int 0])) ∧ ∃ f : Nat → Int32, h.2.2 (a + 1) = some (true, .inl (2, w.length, .inl f)) ∧ ∀ i, i < w.length → f i = nI (w.getD i 0)
theorem wsN.ws {h : PH} {a : Nat} {w : List Nat} (g : wsN h a w) : wsP h a w := by
  obtain ⟨g1, f, g2, g3⟩ := g
  exact ⟨true, true, 0, 0, a + 1, f, g1, g2, g3⟩
section SF
variable {n : Nat} {b : Nat → Nat} {B a : Nat} {D : PD} {cap : Nat × Nat} {c : CZ} {h : PH}
theorem len_ck {m : Nat} (hm : m ≤ 1600) : (!decide (nI m < 0) && decide ((nI m).toNatClampNeg ≤ 100000)) = true := by
  rw [decide_eq_false (nI_pos (by omega)), nI_c (by omega), decide_eq_true (by omega)]
  rfl
/-- a text made of the signs at p -/
theorem x_valueOf (hS : dS D 4 = .int 1) (hw : hW B h) {p len : Nat} {f : Nat → Int32} {w : Nat → Nat} (hp : p < h.1) (hpo : outB B p) (hc : h.2.2 p = some (true, .inl (3, len, .inl f))) (hf : ∀ i, i < len → f i = nI (w i) ∧ w i < 128) (h1 : 1 ≤ len) (hlen : len ≤ 1600) (r1 : h.1 + 2 ≤ cap.1) (r2 : h.2.1 + 4 + len ≤ cap.2) :
    ∃ h', fJ6_valueOf D cap p (mk B c h) = some (h.1, mk B c h') ∧ hGr h h' ∧ hW B h' ∧ h'.1 = h.1 + 2 ∧ h'.2.1 = h.2.1 + 4 + len ∧ wsN h' h.1 (seg w 0 len) := by
  have hB := hw.1
  unfold fJ6_valueOf
  rw [mk_new hB (by omega) (by omega), bnd_s]
  have hw2 := hw.new (.inr (22, [.null, .int 0, .int 0, .int 0])) 4
  have hg2 := hGr.new h (.inr (22, [.null, .int 0, .int 0, .int 0])) 4
  have a2 := hN_at h (.inr (22, [.null, .int 0, .int 0, .int 0])) 4
  have c2 : (hNew h (.inr (22, [.null, .int 0, .int 0, .int 0])) 4).2.2 p = some (true, .inl (3, len, .inl f)) := by rw [hN_ne _ _ _ (by omega)]; exact hc
  have n2 : (hNew h (.inr (22, [.null, .int 0, .int 0, .int 0])) 4).1 = h.1 + 1 := rfl
  have s2 : (hNew h (.inr (22, [.null, .int 0, .int 0, .int 0])) 4).2.1 = h.2.1 + 4 := rfl
  generalize hNew h (.inr (22, [.null, .int 0, .int 0, .int 0])) 4 = h2 at hw2 hg2 a2 c2 n2 s2
  unfold fJ6_init fJ6_init_2 fJ7_compress
  rw [pArr_of (b := true) (x := (len, .inl f)) (by rw [mk_out hpo]; exact c2), ob_s]
  dsimp only
  rw [if_neg (nI_ne0 (by omega) (by omega)), hS, vI_s, if_neg (by decide), ck_t (len_ck hlen), nI_c (show len < 2 ^ 31 by omega), mk_new hw2.1 (by omega) (by omega), bnd_s]
  unfold fJ7_compress_2
  have z0 : (fun _ => (0 : Int32)) = wrF w 0 0 := by
    funext k
    unfold wrF
    rw [if_neg (by omega)]
  have L := comp_L (B := B) (c := c) (h := h2) hw2.1 (p := p) (len := len) (f := f) (w := w) (by omega) hpo c2 hf (by omega) len (fun _ _ _ _ => none) FU 0 (Nat.zero_le _) (FU_gt (by omega))
  rw [z0, show fx (fJ7_compress_2_L3 p h2.1 (nI len)) (fun _ _ _ _ => none) FU 0 0 0 (mk B c (hNew h2 (.inl (2, len, .inl (wrF w 0 0))) len)) = _ from L, bnd_s, if_pos rfl, bnd_s]
  have hw3 := hw2.new (.inl (2, len, .inl (wrF w 0 len))) len
  have hg3 := hg2.tr (hGr.new h2 (.inl (2, len, .inl (wrF w 0 len))) len)
  have a3 := hN_at h2 (.inl (2, len, .inl (wrF w 0 len))) len
  have o3 : (hNew h2 (.inl (2, len, .inl (wrF w 0 len))) len).2.2 h.1 = some (true, .inr (22, [.null, .int 0, .int 0, .int 0])) := by rw [hN_ne _ _ _ (by omega)]; exact a2
  have n3 : (hNew h2 (.inl (2, len, .inl (wrF w 0 len))) len).1 = h.1 + 2 := by show h2.1 + 1 = _; omega
  have s3 : (hNew h2 (.inl (2, len, .inl (wrF w 0 len))) len).2.1 = h.2.1 + 4 + len := by show h2.2.1 + len = _; omega
  rw [cod_0 (bb := true) (f := wrF w 0 len) (Or.inr (Or.inr hw2.1)) a3, bnd_s, ck_t (by decide)]
  generalize hNew h2 (.inl (2, len, .inl (wrF w 0 len))) len = h3 at hw3 hg3 a3 o3 n3 s3
  have oo : outB B h.1 := Or.inr (Or.inr hB)
  rw [mk_pO oo o3 (by decide), bnv_s, mk_pO oo (pE_at _ _ _) (by decide), bnv_s, pE_pE, bnv_s]
  refine ⟨_, rfl, hg3.put (Nat.le_refl _) _, hw3.put (by omega) _, n3, s3, ?_, wrF w 0 len, ?_, fun i hi => ?_⟩
  · rw [pE_at]
    show (some (true, .inr (22, [.ref h2.1, .int 0, .int 0, .int 0])) : Option (Bool × PE)) = _
    rw [n2]
  · rw [pE_ne _ (by omega), ← n2, a3, seg_len]
  · rw [seg_len] at hi
    rw [seg_getD _ _ _ _ hi]
    unfold wrF
    rw [if_pos (by omega)]
theorem x_word (hS : dS D 4 = .int 1) (hw : hW B h) (ha : cAt n b a c) (r1 : h.1 + 3 ≤ cap.1) (r2 : h.2.1 + 4 + 2 * n ≤ cap.2) : match rWord n b a with
    | .inl g => ∃ c', fX2_word D cap (B + 7) (mk B c h) = some (.inr (B + 8), mk B c' h) ∧ cPo n b c c' g
    | .inr (v, e) => ∃ c' h', fX2_word D cap (B + 7) (mk B c h) = some (.inl (h.1 + 1), mk B c' h') ∧ cRd c c' ∧ cI c' 7 4 = cI c 7 4 ∧ cI c' 7 3 = nI v.2 ∧ cAt n b e c' ∧ hGr h h' ∧ hW B h' ∧ h'.1 = h.1 + 3 ∧ h'.2.1 = h.2.1 + 4 + 2 * (e - v.2) ∧ wsN h' (h.1 + 1) v.1 := by
  have hs := ha.sk
  have hn := ha.1.1
  have rd2 := cRd.at c (i := 2) (by decide) (nI (sSk n b a))
  have d4 : cI (xI c 7 2 (nI (sSk n b a))) 7 4 = cI c 7 4 := cI_xI_ne _ (by omega) _
  unfold fX2_word rWord
  rw [r_cls, ckc_s, x_here ha, bnd_s, x_isLetter_r ha.1, bnd_s]
  generalize xI c 7 2 (nI (sSk n b a)) = c1 at hs rd2 d4
  generalize sSk n b a = j at hs
  cases qw : rWordJ n b j with
  | inl g =>
    obtain ⟨rfl, g2⟩ := rWordJ_l qw
    cases c1' : isL (rB n b j) with
    | false =>
      rw [if_pos (by decide), r_F2, vI_s, hs.2.1, r_cls, ckc_s, show (1 : Int32) = nI 1 from rfl, x_wrong, bnd_s]
      exact ⟨_, rfl, cFlt_po rd2 _ _⟩
    | true =>
      have c2 : pv b j = true := by
        cases h : pv b j with
        | true => rfl
        | false => exact absurd ⟨c1', h⟩ g2
      rw [if_neg (by decide), r_cls, ckc_s, x_parted hs, if_pos c2]
      exact ⟨_, rfl, cFlt_po rd2 _ _⟩
  | inr pp =>
    obtain ⟨v, e⟩ := pp
    obtain ⟨w1, w2, w3, w4, w5, w6, w7⟩ := rWordJ_r qw
    have c1' : isL (rB n b j) = true := by unfold rB; rw [if_pos w1]; exact w2
    have hv2 : v.2 = j := by rw [w4]
    have hv1 : v.1 = seg b j (e - j) := by rw [w4, w5]
    rw [c1', if_neg (by decide), r_cls, ckc_s, x_parted hs, if_neg (by rw [w3]; decide)]
    show ∃ c' h', (vI (pF (mk B c1 h) (B + 7) 2 2) fun v1 => _) = _ ∧ _
    rw [r_F2, vI_s, hs.2.1, r_pI c1 h 3 (by decide), bnv_s]
    simp only [jn_s]
    have a2 : cAt n b j (xI c1 7 3 (nI j)) := ⟨hs.1.rd (cRd.at c1 (by decide) _), by rw [cI_xI_ne _ (by omega)]; exact hs.2.1, hs.2.2⟩
    have rd3 := rd2.tr (cRd.at c1 (i := 3) (by decide) (nI j))
    have d43 : cI (xI c1 7 3 (nI j)) 7 4 = cI c 7 4 := by rw [cI_xI_ne _ (by omega)]; exact d4
    have e33 : cI (xI c1 7 3 (nI j)) 7 3 = nI j := cI_xI_eq _ _ _ _
    generalize xI c1 7 3 (nI j) = c2 at a2 rd3 d43 e33
    rw [word_L32 h _ (fun _ => none) FU j c2 a2 (FU_gt (by omega)), ← w5]
    have a3 := a2.to w7
    have rd4 := rd3.tr (cRd.at c2 (i := 2) (by decide) (nI e))
    have d44 : cI (xI c2 7 2 (nI e)) 7 4 = cI c 7 4 := by rw [cI_xI_ne _ (by omega)]; exact d43
    have e34 : cI (xI c2 7 2 (nI e)) 7 3 = nI j := by rw [cI_xI_ne _ (by omega)]; exact e33
    generalize xI c2 7 2 (nI e) = c3 at a3 rd4 d44 e34
    rw [r_F2, vI_s, r_F3, vI_s, a3.2.1, e34, nI_sub (by omega), ck_t (len_ck (by omega)), nI_c (show e - j < 2 ^ 31 by omega), mk_new hw.1 (by omega) (by omega), bnd_s, r_F3, vI_s, e34]
    have z0 : (fun _ => (0 : Int32)) = wrF b j j := by
      funext k
      unfold wrF
      rw [if_neg (by omega)]
    have hl : ∀ i, j ≤ i → i < e → isL (b i) = true := fun i i1 i2 => sWhF_in isL b (n - j) j i i1 (by rw [w5] at i2; exact i2)
    rw [z0, word_L76 hw.1 a3.1 e34 a3.2.1 (by omega) w7 hl (e - j) _ (fun _ _ => none) FU j (Nat.le_refl _) (by omega) (FU_gt (by omega))]
    have hwn := hw.new (.inl (3, e - j, .inl (wrF b j e))) (e - j)
    have hgn := hGr.new h (.inl (3, e - j, .inl (wrF b j e))) (e - j)
    have an := hN_at h (.inl (3, e - j, .inl (wrF b j e))) (e - j)
    have nn : (hNew h (.inl (3, e - j, .inl (wrF b j e))) (e - j)).1 = h.1 + 1 := rfl
    have sn : (hNew h (.inl (3, e - j, .inl (wrF b j e))) (e - j)).2.1 = h.2.1 + (e - j) := rfl
    generalize hNew h (.inl (3, e - j, .inl (wrF b j e))) (e - j) = h1 at hwn hgn an nn sn
    obtain ⟨h', y1, y2, y3, y4, y5, y6⟩ := x_valueOf (B := B) (D := D) (cap := cap) (c := c3) (h := h1) hS hwn (p := h.1) (len := e - j) (f := wrF b j e) (w := fun k => b (j + k)) (by omega) (Or.inr (Or.inr hw.1)) an (fun i hi => by
      refine ⟨?_, ?_⟩
      · unfold wrF
        rw [if_pos (by omega)]
      · have := of_decide_eq_true (hl (j + i) (by omega) (by omega))
        omega) (by omega) (by omega) (by omega) (by omega)
    rw [y1, bnd_s, nn]
    refine ⟨c3, h', rfl, rd4, d44, by rw [hv2]; exact e34, a3, hgn.tr y2, y3, by omega, by omega, ?_⟩
    rw [hv1]
    rw [nn] at y6
    have es : seg (fun k => b (j + k)) 0 (e - j) = seg b j (e - j) := by
      have : ∀ m i, seg (fun k => b (j + k)) i m = seg b (j + i) m := by
        intro m
        induction m with
        | zero => intro i; rfl
        | succ m ih =>
          intro i
          show b (j + i) :: seg (fun k => b (j + k)) (i + 1) m = b (j + i) :: seg b (j + i + 1) m
          rw [ih (i + 1)]
          rfl
      exact this (e - j) 0
    rw [es] at y6
    exact y6
end SF
