/-! PART 37: plain: the whole school read -/
set_option maxRecDepth 100000
section TE
variable {B n : Nat} {b : Nat → Nat} {D : PD} {cap : Nat × Nat} {c : CZ} {h : PH}
theorem x_scNew (hw : hW B h) (r1 : h.1 + 5 ≤ cap.1) (r2 : h.2.1 + 23 ≤ cap.2) :
    ∃ h1 h2, pNew cap (mk B c h) (.inr (1, [.int 0, .int 0, .int 0, .int 0, .null, .null, .null, .null, .null])) 9 = some (h.1, mk B c h1) ∧ fX1_init D cap h.1 (mk B c h1) = some (mk B c h2) ∧ scW B h.1 h2 h.1 st0 0 ∧ hW B h2 ∧ hGr h h2 ∧ h2.1 = h.1 + 5 ∧ h2.2.1 = h.2.1 + 23 := by
  have hB := hw.1
  refine ⟨hNew h (.inr (1, [.int 0, .int 0, .int 0, .int 0, .null, .null, .null, .null, .null])) 9, ?_⟩
  rw [mk_new hB (by omega) (by omega)]
  have w1 := hw.new (.inr (1, [.int 0, .int 0, .int 0, .int 0, .null, .null, .null, .null, .null])) 9
  have g1 := hGr.new h (.inr (1, [.int 0, .int 0, .int 0, .int 0, .null, .null, .null, .null, .null])) 9
  have d1 := hN_at h (.inr (1, [.int 0, .int 0, .int 0, .int 0, .null, .null, .null, .null, .null])) 9
  have n1 : (hNew h (.inr (1, [.int 0, .int 0, .int 0, .int 0, .null, .null, .null, .null, .null])) 9).1 = h.1 + 1 := rfl
  have s1 : (hNew h (.inr (1, [.int 0, .int 0, .int 0, .int 0, .null, .null, .null, .null, .null])) 9).2.1 = h.2.1 + 9 := rfl
  generalize hNew h (.inr (1, [.int 0, .int 0, .int 0, .int 0, .null, .null, .null, .null, .null])) 9 = h1 at w1 g1 d1 n1 s1
  have op : outB B h.1 := Or.inr (Or.inr hB)
  unfold fX1_init
  rw [mk_pO op d1 (show 1 < 9 by decide), bnv_s, mk_pO op (pE_at _ _ _) (show 2 < 9 by decide), bnv_s, pE_pE]
  have w2 := w1.put (a := h.1) (by omega) (.inr (1, [.int 0, .int 10, .int 3, .int 0, .null, .null, .null, .null, .null]))
  have g2 := g1.put (a := h.1) (Nat.le_refl _) (.inr (1, [.int 0, .int 10, .int 3, .int 0, .null, .null, .null, .null, .null]))
  have d2 := pE_at h1 h.1 (.inr (1, [.int 0, .int 10, .int 3, .int 0, .null, .null, .null, .null, .null]))
  have n2 : (pPutE h1 h.1 (.inr (1, [.int 0, .int 10, .int 3, .int 0, .null, .null, .null, .null, .null]))).1 = h.1 + 1 := n1
  have s2 : (pPutE h1 h.1 (.inr (1, [.int 0, .int 10, .int 3, .int 0, .null, .null, .null, .null, .null]))).2.1 = h.2.1 + 9 := s1
  show ∃ h2, _ ∧ (bnd (pNew cap (mk B c (pPutE h1 h.1 (.inr (1, [.int 0, .int 10, .int 3, .int 0, .null, .null, .null, .null, .null])))) _ 3) _) = _ ∧ _
  generalize pPutE h1 h.1 (.inr (1, [.int 0, .int 10, .int 3, .int 0, .null, .null, .null, .null, .null])) = h2 at w2 g2 d2 n2 s2
  -- the facts
  rw [mk_new w2.1 (by omega) (by omega), bnd_s]
  have w3 := w2.new (.inr (21, [.int 0, .null, .int 0])) 3
  have g3 := g2.tr (hGr.new h2 (.inr (21, [.int 0, .null, .int 0])) 3)
  have d3 := hN_at h2 (.inr (21, [.int 0, .null, .int 0])) 3
  have p3 : (hNew h2 (.inr (21, [.int 0, .null, .int 0])) 3).2.2 h.1 = some (true, .inr (1, [.int 0, .int 10, .int 3, .int 0, .null, .null, .null, .null, .null])) := by rw [hN_ne _ _ _ (by omega)]; exact d2
  have n3 : (hNew h2 (.inr (21, [.int 0, .null, .int 0])) 3).1 = h.1 + 2 := by show h2.1 + 1 = _; omega
  have s3 : (hNew h2 (.inr (21, [.int 0, .null, .int 0])) 3).2.1 = h.2.1 + 12 := by show h2.2.1 + 3 = _; omega
  generalize hNew h2 (.inr (21, [.int 0, .null, .int 0])) 3 = h3 at w3 g3 d3 p3 n3 s3
  rw [n2] at d3 ⊢
  rw [show fJ2_init D cap (h.1 + 1) 4 (mk B c h3) = _ from x_lInit (k := 4) w3 (by decide) (by omega) (by omega) d3 (by omega) (by omega), bnv_s]
  have w4 := (w3.new (qArr 4 fun _ => none) 4).put (a := h.1 + 1) (by show h.1 + 1 < h3.1 + 1; omega) (.inr (21, [.int 0, .ref h3.1, .int 0]))
  have g4 := (g3.tr (hGr.new h3 (qArr 4 fun _ => none) 4)).put (a := h.1 + 1) (by omega) (.inr (21, [.int 0, .ref h3.1, .int 0]))
  have d4 : (pPutE (hNew h3 (qArr 4 fun _ => none) 4) (h.1 + 1) (.inr (21, [.int 0, .ref h3.1, .int 0]))).2.2 (h.1 + 1) = some (true, .inr (21, [.int 0, .ref h3.1, .int 0])) := pE_at _ _ _
  have t4 : (pPutE (hNew h3 (qArr 4 fun _ => none) 4) (h.1 + 1) (.inr (21, [.int 0, .ref h3.1, .int 0]))).2.2 (h.1 + 2) = some (true, qArr 4 fun _ => none) := by rw [pE_ne _ (by omega), ← n3, hN_at]
  have p4 : (pPutE (hNew h3 (qArr 4 fun _ => none) 4) (h.1 + 1) (.inr (21, [.int 0, .ref h3.1, .int 0]))).2.2 h.1 = some (true, .inr (1, [.int 0, .int 10, .int 3, .int 0, .null, .null, .null, .null, .null])) := by rw [pE_ne _ (by omega), hN_ne _ _ _ (by omega)]; exact p3
  have n4 : (pPutE (hNew h3 (qArr 4 fun _ => none) 4) (h.1 + 1) (.inr (21, [.int 0, .ref h3.1, .int 0]))).1 = h.1 + 3 := by show h3.1 + 1 = _; omega
  have s4 : (pPutE (hNew h3 (qArr 4 fun _ => none) 4) (h.1 + 1) (.inr (21, [.int 0, .ref h3.1, .int 0]))).2.1 = h.2.1 + 16 := by show h3.2.1 + 4 = _; omega
  generalize pPutE (hNew h3 (qArr 4 fun _ => none) 4) (h.1 + 1) (.inr (21, [.int 0, .ref h3.1, .int 0])) = h4 at w4 g4 d4 t4 p4 n4 s4
  rw [n3] at d4
  rw [mk_pO op p4 (show 4 < 9 by decide), bnv_s]
  have w5 := w4.put (a := h.1) (by omega) (.inr (1, [.int 0, .int 10, .int 3, .int 0, .ref (h.1 + 1), .null, .null, .null, .null]))
  have g5 := g4.put (a := h.1) (Nat.le_refl _) (.inr (1, [.int 0, .int 10, .int 3, .int 0, .ref (h.1 + 1), .null, .null, .null, .null]))
  have p5 := pE_at h4 h.1 (.inr (1, [.int 0, .int 10, .int 3, .int 0, .ref (h.1 + 1), .null, .null, .null, .null]))
  have d5 : (pPutE h4 h.1 (.inr (1, [.int 0, .int 10, .int 3, .int 0, .ref (h.1 + 1), .null, .null, .null, .null]))).2.2 (h.1 + 1) = some (true, .inr (21, [.int 0, .ref (h.1 + 2), .int 0])) := by rw [pE_ne _ (by omega)]; exact d4
  have t5 : (pPutE h4 h.1 (.inr (1, [.int 0, .int 10, .int 3, .int 0, .ref (h.1 + 1), .null, .null, .null, .null]))).2.2 (h.1 + 2) = some (true, qArr 4 fun _ => none) := by rw [pE_ne _ (by omega)]; exact t4
  have n5 : (pPutE h4 h.1 (.inr (1, [.int 0, .int 10, .int 3, .int 0, .ref (h.1 + 1), .null, .null, .null, .null]))).1 = h.1 + 3 := n4
  have s5 : (pPutE h4 h.1 (.inr (1, [.int 0, .int 10, .int 3, .int 0, .ref (h.1 + 1), .null, .null, .null, .null]))).2.1 = h.2.1 + 16 := s4
  show ∃ h2, _ ∧ (bnd (pNew cap (mk B c (pPutE h4 h.1 (.inr (1, [.int 0, .int 10, .int 3, .int 0, .ref (h.1 + 1), .null, .null, .null, .null])))) _ 3) _) = _ ∧ _
  generalize pPutE h4 h.1 (.inr (1, [.int 0, .int 10, .int 3, .int 0, .ref (h.1 + 1), .null, .null, .null, .null])) = h5 at w5 g5 p5 d5 t5 n5 s5
  -- the people
  rw [mk_new w5.1 (by omega) (by omega), bnd_s]
  have w6 := w5.new (.inr (21, [.int 0, .null, .int 0])) 3
  have g6 := g5.tr (hGr.new h5 (.inr (21, [.int 0, .null, .int 0])) 3)
  have d6 := hN_at h5 (.inr (21, [.int 0, .null, .int 0])) 3
  have e6 : ∀ a, a < h.1 + 3 → (hNew h5 (.inr (21, [.int 0, .null, .int 0])) 3).2.2 a = h5.2.2 a := fun a ha => hN_ne _ _ _ (by omega)
  have n6 : (hNew h5 (.inr (21, [.int 0, .null, .int 0])) 3).1 = h.1 + 4 := by show h5.1 + 1 = _; omega
  have s6 : (hNew h5 (.inr (21, [.int 0, .null, .int 0])) 3).2.1 = h.2.1 + 19 := by show h5.2.1 + 3 = _; omega
  generalize hNew h5 (.inr (21, [.int 0, .null, .int 0])) 3 = h6 at w6 g6 d6 e6 n6 s6
  rw [n5] at d6 ⊢
  rw [show fJ2_init D cap (h.1 + 3) 4 (mk B c h6) = _ from x_lInit (k := 4) w6 (by decide) (by omega) (by omega) d6 (by omega) (by omega), bnv_s]
  have w7 := (w6.new (qArr 4 fun _ => none) 4).put (a := h.1 + 3) (by show h.1 + 3 < h6.1 + 1; omega) (.inr (21, [.int 0, .ref h6.1, .int 0]))
  have g7 := (g6.tr (hGr.new h6 (qArr 4 fun _ => none) 4)).put (a := h.1 + 3) (by omega) (.inr (21, [.int 0, .ref h6.1, .int 0]))
  have d7 : (pPutE (hNew h6 (qArr 4 fun _ => none) 4) (h.1 + 3) (.inr (21, [.int 0, .ref h6.1, .int 0]))).2.2 (h.1 + 3) = some (true, .inr (21, [.int 0, .ref h6.1, .int 0])) := pE_at _ _ _
  have t7 : (pPutE (hNew h6 (qArr 4 fun _ => none) 4) (h.1 + 3) (.inr (21, [.int 0, .ref h6.1, .int 0]))).2.2 (h.1 + 4) = some (true, qArr 4 fun _ => none) := by rw [pE_ne _ (by omega), ← n6, hN_at]
  have e7 : ∀ a, a < h.1 + 3 → (pPutE (hNew h6 (qArr 4 fun _ => none) 4) (h.1 + 3) (.inr (21, [.int 0, .ref h6.1, .int 0]))).2.2 a = h5.2.2 a := fun a ha => by rw [pE_ne _ (by omega), hN_ne _ _ _ (by omega)]; exact e6 a ha
  have n7 : (pPutE (hNew h6 (qArr 4 fun _ => none) 4) (h.1 + 3) (.inr (21, [.int 0, .ref h6.1, .int 0]))).1 = h.1 + 5 := by show h6.1 + 1 = _; omega
  have s7 : (pPutE (hNew h6 (qArr 4 fun _ => none) 4) (h.1 + 3) (.inr (21, [.int 0, .ref h6.1, .int 0]))).2.1 = h.2.1 + 23 := by show h6.2.1 + 4 = _; omega
  generalize pPutE (hNew h6 (qArr 4 fun _ => none) 4) (h.1 + 3) (.inr (21, [.int 0, .ref h6.1, .int 0])) = h7 at w7 g7 d7 t7 e7 n7 s7
  rw [n6] at d7
  have p7 : h7.2.2 h.1 = some (true, .inr (1, [.int 0, .int 10, .int 3, .int 0, .ref (h.1 + 1), .null, .null, .null, .null])) := by rw [e7 h.1 (by omega)]; exact p5
  rw [mk_pO op p7 (show 5 < 9 by decide), bnv_s]
  refine ⟨_, rfl, rfl, ⟨h.1 + 1, h.1 + 2, 4, h.1 + 3, h.1 + 4, 4, fun _ => 0, fun _ => 0, fun _ => none, ⟨Nat.le_refl _, by show h.1 < h7.1; omega⟩, pE_at _ _ _, ?_, ?_, ⟨by omega, by omega, by omega, by omega, by omega, by omega, by omega, by omega⟩, fun f hf => absurd hf (Nat.not_lt_zero _), fun f hf => absurd hf (Nat.not_lt_zero _), fun f _ hf => absurd hf (Nat.not_lt_zero _), fun i hi => Or.inl ⟨rfl, rfl⟩⟩, w7.put (a := h.1) (by omega) _, g7.put (a := h.1) (Nat.le_refl _) _, n7, s7⟩
  · refine ⟨⟨by omega, by show h.1 + 1 < h7.1; omega⟩, ⟨by omega, by show h.1 + 2 < h7.1; omega, by omega⟩, 0, fun _ => none, by rw [pE_ne _ (by omega), e7 _ (by omega)]; exact d5, by rw [pE_ne _ (by omega), e7 _ (by omega)]; exact t5, by show 0 ≤ 4; omega, by omega, by show 4 ≤ 2 * 0 + 4; omega, by show 0 ≤ 800; omega, fun i hi => absurd hi (Nat.not_lt_zero _)⟩
  · refine ⟨⟨by omega, by show h.1 + 3 < h7.1; omega⟩, ⟨by omega, by show h.1 + 4 < h7.1; omega, by omega⟩, 0, fun _ => none, by rw [pE_ne _ (by omega)]; exact d7, by rw [pE_ne _ (by omega)]; exact t7, by show 0 ≤ 4; omega, by omega, by show 4 ≤ 2 * 0 + 4; omega, by show 0 ≤ 800; omega, fun i hi => absurd hi (Nat.not_lt_zero _)⟩
/-- the reader alone is changed -/
def cR7 (c c' : CZ) : Prop := (∀ o i, o ≠ 7 → o ≠ 8 → cI c' o i = cI c o i) ∧ c'.2.1 = c.2.1 ∧ ∀ o, o ≠ 7 → c'.2.2 o = c.2.2 o
theorem cRt.r7 {c c' : CZ} (g : cRt c c') : cR7 c c' := ⟨fun o i h1 h2 => g.1 o i h2 (by omega), by rw [g.2], fun o _ => by rw [g.2]⟩
theorem cR7.tr {c1 c2 c3 : CZ} (g : cR7 c1 c2) (k : cR7 c2 c3) : cR7 c1 c3 := ⟨fun o i h1 h2 => (k.1 o i h1 h2).trans (g.1 o i h1 h2), k.2.1.trans g.2.1, fun o h1 => (k.2.2 o h1).trans (g.2.2 o h1)⟩
theorem y_all (hw : hW B h) (hk : Kst D B h.1 h) (hn : n ≤ 1600) (hb : ∀ i, i < n → b i < 256 ∧ cI c 6 i = sb (b i)) (r1 : h.1 + 60 * n + 105 ≤ cap.1) (r2 : h.2.1 + 800 * n + 40023 ≤ cap.2) :
    ∃ c' h', cR7 c c' ∧ hGr h h' ∧ hW B h' ∧ h'.1 ≤ h.1 + 60 * n + 105 ∧ h'.2.1 ≤ h.2.1 + 800 * n + 1023 ∧ match rSch n b 82 st0 0 0 with
      | .inl g => fX2_all D cap (B + 7) (nI n) (mk B c h) = some (.inr (B + 8), mk B c' h') ∧ cFt c' g
      | .inr ((s, cnt), _) => fX2_all D cap (B + 7) (nI n) (mk B c h) = some (.inl h.1, mk B c' h') ∧ scW B h.1 h' h.1 s cnt ∧ stOk s ∧ cnt ≤ 80 := by
  obtain ⟨h1, h2, x1, x2, x3, x4, x5, x6, x7⟩ := x_scNew (B := B) (D := D) (cap := cap) (c := c) hw (by omega) (by omega)
  unfold fX2_all
  rw [x1, bnd_s, x2, bnv_s, show pPut (mk B c h2) (B + 7) 2 6 (.ref h.1) = _ from r_p6 c h2 (some h.1), bnv_s, r_pI _ h2 1 (by decide), bnv_s, r_pI _ h2 2 (by decide), bnv_s, r_pI _ h2 4 (by decide), bnv_s, jn_s]
  have rd : cR7 c (xI (xI (xI (xQ' c 7 6 (some h.1)) 7 1 (nI n)) 7 2 0) 7 4 0) := by
    refine ⟨fun o i q1 q2 => ?_, rfl, fun o q => ?_⟩
    · rw [cI_xI_ne _ (by omega), cI_xI_ne _ (by omega), cI_xI_ne _ (by omega)]
      rfl
    · show va_up c.2.2 7 _ o = c.2.2 o
      rw [va_up_ne _ _ q]
  have e1 : cI (xI (xI (xI (xQ' c 7 6 (some h.1)) 7 1 (nI n)) 7 2 0) 7 4 0) 7 1 = nI n := by rw [cI_xI_ne _ (by omega), cI_xI_ne _ (by omega), cI_xI_eq]
  have e2 : cI (xI (xI (xI (xQ' c 7 6 (some h.1)) 7 1 (nI n)) 7 2 0) 7 4 0) 7 2 = nI 0 := by rw [cI_xI_ne _ (by omega), cI_xI_eq]; rfl
  have e4 : cI (xI (xI (xI (xQ' c 7 6 (some h.1)) 7 1 (nI n)) 7 2 0) 7 4 0) 7 4 = nI 0 := by rw [cI_xI_eq]; rfl
  have e6 : cQ (xI (xI (xI (xQ' c 7 6 (some h.1)) 7 1 (nI n)) 7 2 0) 7 4 0) 7 6 = some h.1 := by
    show va_up c.2.2 7 (va_up (c.2.2 7) 6 (some h.1)) 7 6 = some h.1
    rw [va_up_self, va_up_self]
  generalize xI (xI (xI (xQ' c 7 6 (some h.1)) 7 1 (nI n)) 7 2 0) 7 4 0 = c1 at rd e1 e2 e4 e6
  have as1 : cAs n b 0 c1 := ⟨0, ⟨⟨hn, fun i hi => ⟨(hb i hi).1, by rw [rd.1 6 i (by decide) (by decide)]; exact (hb i hi).2⟩, e1⟩, e2, Nat.zero_le _⟩, rfl⟩
  have hd : rdS D B h.1 h2 := ⟨x4, by omega, hw.1, hk.gr (fun a ha _ => x5.2.2 a ha)⟩
  obtain ⟨c2, h3, y1, y2, y3, y4, y5, y6⟩ := all_L (D := D) (cap := cap) (n := n) (b := b) (fun h7 => vA (pF h7 (B + 7) 2 6) fun p2 => some (.inl p2, h7)) (fun _ => none) 82 c1 h2 0 h.1 0 FU st0 (FU_gt (by decide)) rfl (by decide) hd as1 e6 e4 x3 st0_ok (by omega) (by omega)
  have gr : hGr h h3 := ⟨by omega, by omega, fun a ha => by rw [y2 a ha]; exact x5.2.2 a ha⟩
  refine ⟨c2, h3, rd.tr y1.r7, gr, y5, ?_⟩
  cases qs : rSch n b 82 st0 0 0 with
  | inl gg =>
    rw [qs] at y6
    obtain ⟨k1, k2, k3, k4⟩ := y6
    exact ⟨by omega, by omega, k1, k2⟩
  | inr pp =>
    obtain ⟨⟨s, cnt⟩, e⟩ := pp
    rw [qs] at y6
    obtain ⟨k1, k2, k3, k4, k5, k6⟩ := y6
    refine ⟨by omega, by omega, ?_, k2, k3, k4⟩
    rw [k1]
    show (vA (pF (mk B c2 h3) (B + 7) 2 6) fun p2 => (some (.inl p2, mk B c2 h3) : Option ((Nat ⊕ Nat) × PH))) = _
    rw [r_F6s (by rw [y1.q]; exact e6), vA_s]
end TE
