/-! PART 18: plain: chains of sums: begun, and one more -/
set_option maxRecDepth 100000
/-- a chain of this call at p: its list (al, ar) and its signs (sb, ba) -/
def chW (lo : Nat) (h : PH) (p al ar ln sb ba lm : Nat) (ads sg : Nat → Nat) (n : Nat) : Prop := (lo ≤ p ∧ p < h.1) ∧ h.2.2 p = some (true, .inr (14, [.ref al, .ref sb])) ∧ lsW lo h al ar ln ads n ∧ sbW lo h sb ba lm sg n ∧ (p ≠ al ∧ p ≠ ar ∧ p ≠ sb ∧ p ≠ ba) ∧ (al ≠ sb ∧ al ≠ ba ∧ ar ≠ sb ∧ ar ≠ ba)
theorem lsW.of {lo : Nat} {h h' : PH} {al ar ln : Nat} {ads : Nat → Nat} {n : Nat} (g : lsW lo h al ar ln ads n) (h1 : h.1 ≤ h'.1) (e1 : h'.2.2 al = h.2.2 al) (e2 : h'.2.2 ar = h.2.2 ar) : lsW lo h' al ar ln ads n := by
  obtain ⟨⟨a1, a2⟩, ⟨a3, a4, a5⟩, mc, f, f1, f2, f3⟩ := g
  exact ⟨⟨a1, by omega⟩, ⟨a3, by omega, a5⟩, mc, f, by rw [e1, f1], by rw [e2, f2], f3⟩
theorem sbW.of {lo : Nat} {h h' : PH} {sb ba ln : Nat} {sg : Nat → Nat} {n : Nat} (g : sbW lo h sb ba ln sg n) (h1 : h.1 ≤ h'.1) (e1 : h'.2.2 sb = h.2.2 sb) (e2 : h'.2.2 ba = h.2.2 ba) : sbW lo h' sb ba ln sg n := by
  obtain ⟨⟨a1, a2⟩, ⟨a3, a4, a5⟩, x, f, f1, f2, f3⟩ := g
  exact ⟨⟨a1, by omega⟩, ⟨a3, by omega, a5⟩, x, f, by rw [e1, f1], by rw [e2, f2], f3⟩
section SK1
variable {B : Nat} {D : PD} {cap : Nat × Nat} {c : CZ} {h : PH}
theorem x_chNew (hS : dS D 4 = .int 1) (hw : hW B h) (r1 : h.1 + 5 ≤ cap.1) (r2 : h.2.1 + 27 ≤ cap.2) :
    ∃ h1 h2, pNew cap (mk B c h) (.inr (14, [.null, .null])) 2 = some (h.1, mk B c h1) ∧ fX14_init D cap h.1 (mk B c h1) = some (mk B c h2) ∧ chW h.1 h2 h.1 (h.1 + 1) (h.1 + 2) 2 (h.1 + 3) (h.1 + 4) 16 (fun _ => 0) (fun _ => 0) 0 ∧ hW B h2 ∧ hGr h h2 ∧ h2.1 = h.1 + 5 ∧ h2.2.1 = h.2.1 + 27 := by
  have hB := hw.1
  refine ⟨hNew h (.inr (14, [.null, .null])) 2, ?_⟩
  rw [mk_new hB (by omega) (by omega)]
  have w1 := hw.new (.inr (14, [.null, .null])) 2
  have g1 := hGr.new h (.inr (14, [.null, .null])) 2
  have d1 := hN_at h (.inr (14, [.null, .null])) 2
  have n1 : (hNew h (.inr (14, [.null, .null])) 2).1 = h.1 + 1 := rfl
  have s1 : (hNew h (.inr (14, [.null, .null])) 2).2.1 = h.2.1 + 2 := rfl
  generalize hNew h (.inr (14, [.null, .null])) 2 = h1 at w1 g1 d1 n1 s1
  have op : outB B h.1 := Or.inr (Or.inr hB)
  unfold fX14_init fX13_init
  rw [bnv_s, mk_new w1.1 (by omega) (by omega), bnd_s]
  -- the list
  have w2 := w1.new (.inr (21, [.int 0, .null, .int 0])) 3
  have g2 := g1.tr (hGr.new h1 (.inr (21, [.int 0, .null, .int 0])) 3)
  have d2 := hN_at h1 (.inr (21, [.int 0, .null, .int 0])) 3
  have p2 : (hNew h1 (.inr (21, [.int 0, .null, .int 0])) 3).2.2 h.1 = some (true, .inr (14, [.null, .null])) := by rw [hN_ne _ _ _ (by omega)]; exact d1
  have n2 : (hNew h1 (.inr (21, [.int 0, .null, .int 0])) 3).1 = h.1 + 2 := by show h1.1 + 1 = _; omega
  have s2 : (hNew h1 (.inr (21, [.int 0, .null, .int 0])) 3).2.1 = h.2.1 + 5 := by show h1.2.1 + 3 = _; omega
  generalize hNew h1 (.inr (21, [.int 0, .null, .int 0])) 3 = h2 at w2 g2 d2 p2 n2 s2
  rw [n1] at d2 ⊢
  rw [show fJ2_init D cap (h.1 + 1) 2 (mk B c h2) = _ from x_lInit (k := 2) w2 (by decide) (by omega) (by omega) d2 (by omega) (by omega), bnv_s]
  have w3 := (w2.new (qArr 2 fun _ => none) 2).put (a := h.1 + 1) (by show h.1 + 1 < h2.1 + 1; omega) (.inr (21, [.int 0, .ref h2.1, .int 0]))
  have g3 := (g2.tr (hGr.new h2 (qArr 2 fun _ => none) 2)).put (a := h.1 + 1) (by omega) (.inr (21, [.int 0, .ref h2.1, .int 0]))
  have d3 : (pPutE (hNew h2 (qArr 2 fun _ => none) 2) (h.1 + 1) (.inr (21, [.int 0, .ref h2.1, .int 0]))).2.2 (h.1 + 1) = some (true, .inr (21, [.int 0, .ref h2.1, .int 0])) := pE_at _ _ _
  have t3 : (pPutE (hNew h2 (qArr 2 fun _ => none) 2) (h.1 + 1) (.inr (21, [.int 0, .ref h2.1, .int 0]))).2.2 (h.1 + 2) = some (true, qArr 2 fun _ => none) := by rw [pE_ne _ (by omega), ← n2, hN_at]
  have p3 : (pPutE (hNew h2 (qArr 2 fun _ => none) 2) (h.1 + 1) (.inr (21, [.int 0, .ref h2.1, .int 0]))).2.2 h.1 = some (true, .inr (14, [.null, .null])) := by rw [pE_ne _ (by omega), hN_ne _ _ _ (by omega)]; exact p2
  have n3 : (pPutE (hNew h2 (qArr 2 fun _ => none) 2) (h.1 + 1) (.inr (21, [.int 0, .ref h2.1, .int 0]))).1 = h.1 + 3 := by show h2.1 + 1 = _; omega
  have s3 : (pPutE (hNew h2 (qArr 2 fun _ => none) 2) (h.1 + 1) (.inr (21, [.int 0, .ref h2.1, .int 0]))).2.1 = h.2.1 + 7 := by show h2.2.1 + 2 = _; omega
  generalize pPutE (hNew h2 (qArr 2 fun _ => none) 2) (h.1 + 1) (.inr (21, [.int 0, .ref h2.1, .int 0])) = h3 at w3 g3 d3 t3 p3 n3 s3
  rw [n2] at d3
  rw [mk_pO op p3 (by decide), bnv_s, show ([.null, .null] : List Value).set 0 (.ref (h.1 + 1)) = [.ref (h.1 + 1), .null] from rfl]
  have w4 := w3.put (a := h.1) (by omega) (.inr (14, [.ref (h.1 + 1), .null]))
  have g4 := g3.put (a := h.1) (Nat.le_refl _) (.inr (14, [.ref (h.1 + 1), .null]))
  have d4 : (pPutE h3 h.1 (.inr (14, [.ref (h.1 + 1), .null]))).2.2 (h.1 + 1) = some (true, .inr (21, [.int 0, .ref (h.1 + 2), .int 0])) := by rw [pE_ne _ (by omega)]; exact d3
  have t4 : (pPutE h3 h.1 (.inr (14, [.ref (h.1 + 1), .null]))).2.2 (h.1 + 2) = some (true, qArr 2 fun _ => none) := by rw [pE_ne _ (by omega)]; exact t3
  have p4 : (pPutE h3 h.1 (.inr (14, [.ref (h.1 + 1), .null]))).2.2 h.1 = some (true, .inr (14, [.ref (h.1 + 1), .null])) := pE_at _ _ _
  have n4 : (pPutE h3 h.1 (.inr (14, [.ref (h.1 + 1), .null]))).1 = h.1 + 3 := n3
  have s4 : (pPutE h3 h.1 (.inr (14, [.ref (h.1 + 1), .null]))).2.1 = h.2.1 + 7 := s3
  generalize pPutE h3 h.1 (.inr (14, [.ref (h.1 + 1), .null])) = h4 at w4 g4 d4 t4 p4 n4 s4
  rw [mk_new w4.1 (by omega) (by omega), bnd_s]
  -- the signs
  have w5 := w4.new (.inr (23, [.null, .int 0, .int 0, .int 0])) 4
  have g5 := g4.tr (hGr.new h4 (.inr (23, [.null, .int 0, .int 0, .int 0])) 4)
  have q5 := hN_at h4 (.inr (23, [.null, .int 0, .int 0, .int 0])) 4
  have k5 : ∀ a, a < h.1 + 3 → (hNew h4 (.inr (23, [.null, .int 0, .int 0, .int 0])) 4).2.2 a = h4.2.2 a := fun a ha => hN_ne _ _ _ (by omega)
  have n5 : (hNew h4 (.inr (23, [.null, .int 0, .int 0, .int 0])) 4).1 = h.1 + 4 := by show h4.1 + 1 = _; omega
  have s5 : (hNew h4 (.inr (23, [.null, .int 0, .int 0, .int 0])) 4).2.1 = h.2.1 + 11 := by show h4.2.1 + 4 = _; omega
  generalize hNew h4 (.inr (23, [.null, .int 0, .int 0, .int 0])) 4 = h5 at w5 g5 q5 k5 n5 s5
  rw [n4] at q5 ⊢
  unfold fJ15_init fJ14_init
  have osb : outB B (h.1 + 3) := Or.inr (Or.inr (by omega))
  rw [hS, vI_s, if_neg (by decide), ck_t (show (!decide ((16 : Int32) < 0) && decide ((16 : Int32).toNatClampNeg ≤ 100000)) = true by decide), show (16 : Int32).toNatClampNeg = 16 from by decide, mk_new w5.1 (by omega) (by omega), bnd_s]
  have w6 := w5.new (.inl (2, 16, .inl fun _ => 0)) 16
  have g6 := g5.tr (hGr.new h5 (.inl (2, 16, .inl fun _ => 0)) 16)
  have q6 : (hNew h5 (.inl (2, 16, .inl fun _ => 0)) 16).2.2 (h.1 + 3) = some (true, .inr (23, [.null, .int 0, .int 0, .int 0])) := by rw [hN_ne _ _ _ (by omega)]; exact q5
  have b6 := hN_at h5 (.inl (2, 16, .inl fun _ => 0)) 16
  have k6 : ∀ a, a < h.1 + 3 → (hNew h5 (.inl (2, 16, .inl fun _ => 0)) 16).2.2 a = h4.2.2 a := fun a ha => by rw [hN_ne _ _ _ (by omega)]; exact k5 a ha
  have n6 : (hNew h5 (.inl (2, 16, .inl fun _ => 0)) 16).1 = h.1 + 5 := by show h5.1 + 1 = _; omega
  have s6 : (hNew h5 (.inl (2, 16, .inl fun _ => 0)) 16).2.1 = h.2.1 + 27 := by show h5.2.1 + 16 = _; omega
  generalize hNew h5 (.inl (2, 16, .inl fun _ => 0)) 16 = h6 at w6 g6 q6 b6 k6 n6 s6
  rw [n5] at b6 ⊢
  rw [mk_pO osb q6 (by decide), bnv_s, mk_pO osb (pE_at _ _ _) (show 1 < 4 by decide), bnv_s, pE_pE, bnv_s, bnv_s]
  rw [mk_pO op (by rw [pE_ne _ (by omega), k6 _ (by omega)]; exact p4) (show 1 < 2 by decide), bnv_s]
  refine ⟨_, rfl, rfl, ⟨⟨Nat.le_refl _, by show h.1 < h6.1; omega⟩, pE_at _ _ _, ⟨⟨by omega, by show h.1 + 1 < h6.1; omega⟩, ⟨by omega, by show h.1 + 2 < h6.1; omega, by omega⟩, 0, fun _ => none, ?_, ?_, by omega, by omega, by omega, by omega, fun i hi => absurd hi (Nat.not_lt_zero _)⟩, ⟨⟨by omega, by show h.1 + 3 < h6.1; omega⟩, ⟨by omega, by show h.1 + 4 < h6.1; omega, by omega⟩, 0, fun _ => 0, ?_, ?_, by omega, by omega, by omega, by omega, fun i => ⟨0, by decide, rfl⟩, fun i hi => absurd hi (Nat.not_lt_zero _)⟩, by omega, by omega⟩, (w6.put (by omega) _).put (by show h.1 < h6.1; omega) _, (g6.put (by omega) _).put (Nat.le_refl _) _, n6, s6⟩
  · rw [pE_ne _ (by omega), pE_ne _ (by omega), k6 _ (by omega)]
    exact d4
  · rw [pE_ne _ (by omega), pE_ne _ (by omega), k6 _ (by omega)]
    exact t4
  · rw [pE_ne _ (by omega), pE_at]
    rfl
  · rw [pE_ne _ (by omega), pE_ne _ (by omega)]
    exact b6
theorem x_chAdd {lo p al ar ln sb ba lm n s x : Nat} {ads sg : Nat → Nat} (hS : dS D 4 = .int 1) (hw : hW B h) (hlo : B + 841 ≤ lo) (g : chW lo h p al ar ln sb ba lm ads sg n) (hn : n < 800) (hs : s < 128) (hx : outB B x ∧ x < h.1 ∧ x ≠ al ∧ x ≠ ar ∧ x ≠ sb ∧ x ≠ ba ∧ isEl (pCls (mk B c h) x) = true) (hE : ∀ i, i < n → outB B (ads i) ∧ ads i < h.1 ∧ ads i ≠ al ∧ ads i ≠ ar ∧ ads i ≠ sb ∧ ads i ≠ ba ∧ isEl (pCls (mk B c h) (ads i)) = true) (r1 : h.1 + 2 ≤ cap.1) (r2 : h.2.1 + (10 * n + 80) ≤ cap.2) :
    ∃ h' ar' ba' ln' lm', fX14_add D cap p (nI s) x (mk B c h) = some (mk B c h') ∧ chW lo h' p al ar' ln' sb ba' lm' (va_up ads n x) (va_up sg n s) (n + 1) ∧ hW B h' ∧ (h.1 ≤ h'.1 ∧ h'.1 ≤ h.1 + 2) ∧ (h.2.1 ≤ h'.2.1 ∧ h'.2.1 + 14 * (n + 1) + 3 * ln + 4 * lm ≤ h.2.1 + 14 * n + 3 * ln' + 4 * lm' + 15) ∧ ((ar' = ar ∨ h.1 ≤ ar') ∧ (ba' = ba ∨ h.1 ≤ ba')) ∧ ∀ a, a < h.1 → a ≠ al → a ≠ ar → a ≠ sb → a ≠ ba → h'.2.2 a = h.2.2 a := by
  obtain ⟨⟨p1, p2⟩, p3, gl, gs, ⟨e1, e2, e3, e4⟩, e5, e6, e7, e8⟩ := g
  have op : outB B p := Or.inr (Or.inr (by omega))
  have hln := gl.2.2
  have hlm := gs.2.2
  obtain ⟨-, -, -, -, -, -, l5, -⟩ := hln
  obtain ⟨-, -, -, -, -, -, m5, -⟩ := hlm
  unfold fX14_add
  rw [pF_of (k := 1) (b := true) (by rw [mk_out op]; exact p3) rfl, vA_s]
  have csb : pCls (mk B c h) sb = some 23 := by
    obtain ⟨⟨b1, b2⟩, -, xx, f, f1, -⟩ := gs
    exact pCls_of (by rw [mk_out (Or.inr (Or.inr (by omega)))]; exact f1)
  rw [csb, ckc_s]
  obtain ⟨h1, ba', lm', s1, s2, s3, s4, s5, s6, s7⟩ := x_sbAdd (B := B) (D := D) (cap := cap) (c := c) hS hw hlo gs hn hs (by omega) (by omega)
  have gl0 := gl
  have gs0 := gs
  obtain ⟨⟨la1, la2⟩, ⟨la3, la4, la5⟩, -⟩ := gl0
  obtain ⟨⟨sa1, sa2⟩, ⟨sa3, sa4, sa5⟩, -⟩ := gs0
  have s20 := s2
  obtain ⟨-, ⟨u3, u4, u5⟩, -, -, -, -, -, -, u6, -⟩ := s20
  rw [s1, bnd_s]
  have p3' : h1.2.2 p = some (true, .inr (14, [.ref al, .ref sb])) := by rw [s7 p p2 e3 e4]; exact p3
  have gl' : lsW lo h1 al ar ln ads n := gl.of s4.1 (s7 al (by omega) e5 e6) (s7 ar (by omega) e7 e8)
  have cal : pCls (mk B c h1) al = some 21 := by
    obtain ⟨⟨b1, b2⟩, -, mc, f, f1, -⟩ := gl'
    exact pCls_of (by rw [mk_out (Or.inr (Or.inr (by omega)))]; exact f1)
  rw [pF_of (k := 0) (b := true) (by rw [mk_out op]; exact p3') rfl, vA_s, cal, ckc_s]
  have keep : ∀ y, outB B y → y < h.1 → y ≠ sb → y ≠ ba → isEl (pCls (mk B c h) y) = true → isEl (pCls (mk B c h1) y) = true := by
    intro y y1 y2 y3 y4 y5
    rw [pCls_eq (mk_eq y1 (s7 y y2 y3 y4))]
    exact y5
  obtain ⟨x1, x2, x3, x4, x5, x6, x7⟩ := hx
  obtain ⟨h2, ar', ln', t1, t2, t3, t4, t5, t6, t7⟩ := x_lAdd (B := B) (D := D) (cap := cap) (c := c) s3 hlo gl' hn ⟨x1, by omega, x3, x4, keep x x1 x2 x5 x6 x7⟩ (fun i hi => by
    obtain ⟨y1, y2, y3, y4, y5, y6, y7⟩ := hE i hi
    exact ⟨y1, by omega, y3, y4, keep _ y1 y2 y5 y6 y7⟩) (by omega) (by omega)
  rw [t1, bnd_s]
  have bb : ba' = ba ∨ h.1 ≤ ba' := s6.elim Or.inl (fun q => Or.inr (by omega))
  have aa : ar' = ar ∨ h.1 ≤ ar' := t6.elim Or.inl (fun q => Or.inr (by omega))
  have bne : ba' ≠ al ∧ ba' ≠ ar ∧ ba' ≠ p := by rcases bb with q | q <;> omega
  have s2' : sbW lo h2 sb ba' lm' (va_up sg n s) (n + 1) := s2.of t4.1 (t7 sb (by omega) (by omega) (by omega)) (t7 ba' (by omega) (by omega) (by omega))
  have t20 := t2
  obtain ⟨-, ⟨v3, v4, v5⟩, -⟩ := t20
  refine ⟨h2, ar', ba', ln', lm', rfl, ⟨⟨p1, by omega⟩, by rw [t7 p (by omega) (by omega) (by omega)]; exact p3', t2, s2', ⟨by omega, ?_, by omega, by omega⟩, by omega, by omega, ?_, ?_⟩, t3, by omega, by omega, ⟨aa, bb⟩, fun a b1 b2 b3 b4 b5 => by rw [t7 a (by omega) b2 b3, s7 a b1 b4 b5]⟩
  · rcases aa with q | q <;> omega
  · rcases t6 with q | q <;> omega
  · rcases t6 with q | q <;> omega
end SK1
