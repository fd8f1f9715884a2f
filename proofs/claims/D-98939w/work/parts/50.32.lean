/-! PART 32: plain: the school grows -/
set_option maxRecDepth 100000
section SZ
variable {B lo : Nat} {h0 h : PH} {sa fl fr fn pl pr pn : Nat} {fo po : Nat → Nat} {tq : Nat → Option Nat} {s : ST} {cnt : Nat} {D : PD} {cap : Nat × Nat} {c : CZ}
theorem sc_addF (hw : hW B h) (hlo : B + 841 ≤ lo) (g : scO B lo h0 sa fl fr fn pl pr pn fo po tq s cnt) (hg : hGr h0 h) {x nn v : Nat} {l : List Nat} (hx : iv h0.1 h.1 x) (ex : h.2.2 x = some (true, .inr (7, [.ref nn, .int (nI v)]))) (hn : strP (iv h0.1 h.1) h nn l) (hk : kF (tK s) < 8) (r1 : h.1 + 1 ≤ cap.1) (r2 : h.2.1 + 30 ≤ cap.2) :
    ∃ h', fJ2_add D cap fl (some x) (mk B c h) = some (true, mk B c h') ∧ scW B lo h' sa (sAddF s l v) cnt ∧ hW B h' ∧ (h.1 ≤ h'.1 ∧ h'.1 ≤ h.1 + 1) ∧ (h.2.1 ≤ h'.2.1 ∧ h'.2.1 ≤ h.2.1 + 70) ∧ ∀ a, a < lo → h'.2.2 a = h.2.2 a := by
  have gg := g
  obtain ⟨⟨a1, a2⟩, a3, g1, g2, ⟨d1, d2, d3, d4, d5, d6, d7, d8⟩, g4, g5, g6, g7⟩ := g
  obtain ⟨g10, ⟨g11, g12, g13⟩, g14⟩ := g1
  obtain ⟨g20, ⟨g21, g22, g23⟩, g24⟩ := g2
  have g1 : lsW lo h0 fl fr fn fo (kF (tK s)) := ⟨g10, ⟨g11, g12, g13⟩, g14⟩
  have g2 : lsW lo h0 pl pr pn po (kP (tK s)) := ⟨g20, ⟨g21, g22, g23⟩, g24⟩
  have h01 := hg.1
  have x1 := hx.1
  have x2 := hx.2
  have wl1 := g1.of hg.1 (hg.2.2 _ g10.2) (hg.2.2 _ g12)
  have cl : ∀ a, B + 841 ≤ a → pCls (mk B c h) a = pCls h a := fun a ha => by unfold pCls; rw [mk_out (Or.inr (Or.inr ha))]
  obtain ⟨h', ar', ln', y1, y2, y3, y4, y5, y6, y7⟩ := x_lAdd (B := B) (D := D) (cap := cap) (c := c) hw hlo wl1 (show kF (tK s) < 800 by omega) ⟨Or.inr (Or.inr (by omega)), x2, by have := g10.2; omega, by omega, by rw [cl x (by omega), pCls_of ex]; decide⟩ (fun i hi => by
    obtain ⟨q1, n, q2, q3⟩ := g4 i hi
    obtain ⟨⟨q4, q5⟩, ⟨q6, q7, q8, q9, q10⟩, q11⟩ := q1
    exact ⟨Or.inr (Or.inr (by omega)), by omega, q7, q8, by rw [cl _ (by omega), pCls_eq (hg.2.2 _ q5), pCls_of q2]; decide⟩) r1 (by omega)
  have y8 := y2.2.2
  obtain ⟨mc, f, -, -, -, -, y9, -⟩ := y8
  have far : ∀ a, a < h0.1 → a ≠ fr → a ≠ ar' := fun a q1 q2 => by rcases y6 with q | q <;> omega
  have new : ∀ a, iv h0.1 h.1 a → scQ lo h'.1 sa fl ar' pl pr po (kP (tK s)) a ∧ h'.2.2 a = h.2.2 a := by
    intro a ha
    have ha : h0.1 ≤ a ∧ a < h.1 := ha
    refine ⟨⟨⟨by omega, by omega⟩, ⟨by omega, by have := g10.2; omega, ?_, by have := g20.2; omega, by omega⟩, fun p hp => ?_⟩, y7 a ha.2 (by have := g10.2; omega) (by omega)⟩
    · rcases y6 with q | q <;> omega
    · obtain ⟨⟨q1, -⟩, -⟩ := g5 p hp
      have := q1.2
      omega
  have old : ∀ a, scQ lo h0.1 sa fl fr pl pr po (kP (tK s)) a → scQ lo h'.1 sa fl ar' pl pr po (kP (tK s)) a ∧ h'.2.2 a = h0.2.2 a := by
    intro a ha
    obtain ⟨⟨q4, q5⟩, ⟨q6, q7, q8, q9, q10⟩, q11⟩ := ha
    exact ⟨⟨⟨q4, by omega⟩, ⟨q6, q7, far a q5 q8, q9, q10⟩, q11⟩, by rw [y7 a (by omega) q7 q8, hg.2.2 a q5]⟩
  have pt : ∀ a, a < h0.1 → a ≠ fl → a ≠ fr → h'.2.2 a = h0.2.2 a := fun a q1 q2 q3 => by rw [y7 a (by omega) q2 q3, hg.2.2 a q1]
  refine ⟨h', y1, ⟨fl, ar', ln', pl, pr, pn, va_up fo (kF (tK s)) x, po, tq, ⟨a1, by omega⟩, ?_, y2, g2.of (by omega) (pt pl g20.2 (by omega) (by omega)) (pt pr g22 (by omega) (by omega)), ⟨d1, far sa a2 d2, d3, d4, d5, d6, fun q => far pl g20.2 (Ne.symm d7) q.symm, fun q => far pr g22 (Ne.symm d8) q.symm⟩, fun f hf => ?_, fun p hp => ?_, g6, fun i hi => ?_⟩, y3, y4, ⟨y5.1, by omega⟩, fun a ha => y7 a (by omega) (by have := g10.1; omega) (by omega)⟩
  · rw [pt sa a2 d1 d2]; exact a3
  · have hf : f < kF (tK s) + 1 := hf
    by_cases c1 : f = kF (tK s)
    · have e1 : kWo (tK (sAddF s l v)) f = v := by show va_up (tK s).2.1 (kF (tK s)) v f = v; rw [c1, va_up_self]
      have e2 : tNm (sAddF s l v) 0 f = l := by show (if 0 = 0 ∧ f = kF (tK s) then l else tNm s 0 f) = l; rw [if_pos ⟨rfl, c1⟩]
      rw [e1, e2, c1, va_up_self]
      exact ⟨(new x hx).1, nn, by rw [(new x hx).2]; exact ex, hn.of new⟩
    · have e1 : kWo (tK (sAddF s l v)) f = kWo (tK s) f := by show va_up (tK s).2.1 (kF (tK s)) v f = _; rw [va_up_ne _ _ c1]; rfl
      have e2 : tNm (sAddF s l v) 0 f = tNm s 0 f := by show (if 0 = 0 ∧ f = kF (tK s) then l else tNm s 0 f) = _; rw [if_neg (fun q => c1 q.2)]
      obtain ⟨q1, n, q2, q3⟩ := g4 f (by omega)
      rw [e1, e2, va_up_ne _ _ c1]
      exact ⟨(old _ q1).1, n, by rw [(old _ q1).2]; exact q2, q3.of old⟩
  · have hp : p < kP (tK s) := hp
    have e2 : tNm (sAddF s l v) 1 p = tNm s 1 p := by show (if 1 = 0 ∧ p = kF (tK s) then l else tNm s 1 p) = _; rw [if_neg (fun q => by cases q.1)]
    obtain ⟨⟨q1, q4, q5, q6, q7, q8⟩, n, q2, q3⟩ := g5 p hp
    rw [e2]
    exact ⟨⟨⟨q1.1, by have := q1.2; omega⟩, q4, q5, far _ q1.2 q6, q7, q8⟩, n, by rw [pt _ q1.2 q5 q6]; exact q2, q3.of old⟩
  · rcases g7 i hi with q | ⟨c, t, q1, q2, q3⟩
    · exact Or.inl q
    · exact Or.inr ⟨c, t, q1, q2, q3.of old⟩
theorem sc_addP (hw : hW B h) (hlo : B + 841 ≤ lo) (hs : stOk s) (g : scO B lo h0 sa fl fr fn pl pr pn fo po tq s cnt) (hg : hGr h0 h) {x nn v : Nat} {l : List Nat} (hx : iv h0.1 h.1 x) (ex : h.2.2 x = some (true, .inr (8, [.ref nn, .int (nI v), .int (-1), .int 0, .int 0]))) (hn : strP (fun a => iv h0.1 h.1 a ∧ a ≠ x) h nn l) (hk : kP (tK s) < 8) (r1 : h.1 + 1 ≤ cap.1) (r2 : h.2.1 + 30 ≤ cap.2) :
    ∃ h', fJ2_add D cap pl (some x) (mk B c h) = some (true, mk B c h') ∧ scW B lo h' sa (sAddP s l v) cnt ∧ hW B h' ∧ (h.1 ≤ h'.1 ∧ h'.1 ≤ h.1 + 1) ∧ (h.2.1 ≤ h'.2.1 ∧ h'.2.1 ≤ h.2.1 + 70) ∧ ∀ a, a < lo → h'.2.2 a = h.2.2 a := by
  obtain ⟨⟨a1, a2⟩, a3, g1, g2, ⟨d1, d2, d3, d4, d5, d6, d7, d8⟩, g4, g5, g6, g7⟩ := g
  obtain ⟨g10, ⟨g11, g12, g13⟩, g14⟩ := g1
  obtain ⟨g20, ⟨g21, g22, g23⟩, g24⟩ := g2
  have g1 : lsW lo h0 fl fr fn fo (kF (tK s)) := ⟨g10, ⟨g11, g12, g13⟩, g14⟩
  have g2 : lsW lo h0 pl pr pn po (kP (tK s)) := ⟨g20, ⟨g21, g22, g23⟩, g24⟩
  have h01 := hg.1
  have x1 := hx.1
  have x2 := hx.2
  have wl1 := g2.of hg.1 (hg.2.2 _ g20.2) (hg.2.2 _ g22)
  have cl : ∀ a, B + 841 ≤ a → pCls (mk B c h) a = pCls h a := fun a ha => by unfold pCls; rw [mk_out (Or.inr (Or.inr ha))]
  obtain ⟨h', ar', ln', y1, y2, y3, y4, y5, y6, y7⟩ := x_lAdd (B := B) (D := D) (cap := cap) (c := c) hw hlo wl1 (show kP (tK s) < 800 by omega) ⟨Or.inr (Or.inr (by omega)), x2, by have := g20.2; omega, by omega, by rw [cl x (by omega), pCls_of ex]; decide⟩ (fun i hi => by
    obtain ⟨⟨⟨q4, q5⟩, q6, q7, q8, q9, q10⟩, n, q2, q3⟩ := g5 i hi
    exact ⟨Or.inr (Or.inr (by omega)), by omega, q9, q10, by rw [cl _ (by omega), pCls_eq (hg.2.2 _ q5), pCls_of q2]; decide⟩) r1 (by omega)
  have y8 := y2.2.2
  obtain ⟨mc, f, -, -, -, -, y9, -⟩ := y8
  have far : ∀ a, a < h0.1 → a ≠ pr → a ≠ ar' := fun a q1 q2 => by rcases y6 with q | q <;> omega
  have pe : ∀ p, p < kP (tK s) → va_up po (kP (tK s)) x p = po p := fun p hp => va_up_ne _ _ (by omega)
  have new : ∀ a, (iv h0.1 h.1 a ∧ a ≠ x) → scQ lo h'.1 sa fl fr pl ar' (va_up po (kP (tK s)) x) (kP (tK s) + 1) a ∧ h'.2.2 a = h.2.2 a := by
    intro a ha
    have hx' := ha.2
    have ha : h0.1 ≤ a ∧ a < h.1 := ha.1
    refine ⟨⟨⟨by omega, by omega⟩, ⟨by omega, by have := g10.2; omega, by omega, by have := g20.2; omega, ?_⟩, fun p hp => ?_⟩, y7 a ha.2 (by have := g20.2; omega) (by omega)⟩
    · rcases y6 with q | q <;> omega
    · by_cases c1 : p = kP (tK s)
      · rw [c1, va_up_self]; exact hx'
      · rw [va_up_ne _ _ c1]
        obtain ⟨⟨q1, -⟩, -⟩ := g5 p (by omega)
        have := q1.2
        omega
  have old : ∀ a, scQ lo h0.1 sa fl fr pl pr po (kP (tK s)) a → scQ lo h'.1 sa fl fr pl ar' (va_up po (kP (tK s)) x) (kP (tK s) + 1) a ∧ h'.2.2 a = h0.2.2 a := by
    intro a ha
    obtain ⟨⟨q4, q5⟩, ⟨q6, q7, q8, q9, q10⟩, q11⟩ := ha
    refine ⟨⟨⟨q4, by omega⟩, ⟨q6, q7, q8, q9, far a q5 q10⟩, fun p hp => ?_⟩, by rw [y7 a (by omega) q9 q10, hg.2.2 a q5]⟩
    by_cases c1 : p = kP (tK s)
    · rw [c1, va_up_self]; omega
    · rw [va_up_ne _ _ c1]; exact q11 p (by omega)
  have pt : ∀ a, a < h0.1 → a ≠ pl → a ≠ pr → h'.2.2 a = h0.2.2 a := fun a q1 q2 q3 => by rw [y7 a (by omega) q2 q3, hg.2.2 a q1]
  refine ⟨h', y1, ⟨fl, fr, fn, pl, ar', ln', fo, va_up po (kP (tK s)) x, tq, ⟨a1, by omega⟩, ?_, g1.of (by omega) (pt fl g10.2 (by omega) (by omega)) (pt fr g12 (by omega) (by omega)), y2, ⟨d1, d2, d3, far sa a2 d4, d5, far fl g10.2 d6, d7, far fr g12 d8⟩, fun f hf => ?_, fun p hp => ?_, fun p p' hp hp' => ?_, fun i hi => ?_⟩, y3, y4, ⟨y5.1, by omega⟩, fun a ha => y7 a (by omega) (by have := g20.1; omega) (by omega)⟩
  · rw [pt sa a2 d3 d4]; exact a3
  · have hf : f < kF (tK s) := hf
    have e2 : tNm (sAddP s l v) 0 f = tNm s 0 f := by show (if 0 = 1 ∧ f = kP (tK s) then l else tNm s 0 f) = _; rw [if_neg (fun q => by cases q.1)]
    obtain ⟨q1, n, q2, q3⟩ := g4 f hf
    rw [e2]
    exact ⟨(old _ q1).1, n, by rw [(old _ q1).2]; exact q2, q3.of old⟩
  · have hp : p < kP (tK s) + 1 := hp
    by_cases c1 : p = kP (tK s)
    · obtain ⟨z1, z2, z3⟩ := hs.2.2.2 (kP (tK s)) (Nat.le_refl _)
      have e1 : kCa (tK (sAddP s l v)) p = v := by show va_up (tK s).2.2.1 (kP (tK s)) v p = v; rw [c1, va_up_self]
      have e2 : tNm (sAddP s l v) 1 p = l := by show (if 1 = 1 ∧ p = kP (tK s) then l else tNm s 1 p) = l; rw [if_pos ⟨rfl, c1⟩]
      have e3 : tM (sAddP s l v) p = 0 := by rw [c1]; exact z1
      have e4 : tR (sAddP s l v) p = 0 := by rw [c1]; exact z2
      have e5 : tW (sAddP s l v) p = 0 := by rw [c1]; exact z3
      rw [e1, e2, e3, e4, e5, c1, va_up_self]
      refine ⟨⟨⟨by omega, by omega⟩, by omega, by have := g10.2; omega, by omega, by have := g20.2; omega, ?_⟩, nn, by rw [y7 x x2 (by have := g20.2; omega) (by omega)]; exact ex, hn.of new⟩
      rcases y6 with q | q <;> omega
    · have e1 : kCa (tK (sAddP s l v)) p = kCa (tK s) p := by show va_up (tK s).2.2.1 (kP (tK s)) v p = _; rw [va_up_ne _ _ c1]; rfl
      have e2 : tNm (sAddP s l v) 1 p = tNm s 1 p := by show (if 1 = 1 ∧ p = kP (tK s) then l else tNm s 1 p) = _; rw [if_neg (fun q => c1 q.2)]
      obtain ⟨⟨q1, q4, q5, q6, q7, q8⟩, n, q2, q3⟩ := g5 p (by omega)
      rw [e1, e2, va_up_ne _ _ c1]
      exact ⟨⟨⟨q1.1, by have := q1.2; omega⟩, q4, q5, q6, q7, far _ q1.2 q8⟩, n, by rw [pt _ q1.2 q7 q8]; exact q2, q3.of old⟩
  · have hp : p < kP (tK s) + 1 := hp
    have hp' : p' < kP (tK s) + 1 := hp'
    by_cases c1 : p = kP (tK s)
    · by_cases c2 : p' = kP (tK s)
      · intro _; omega
      · rw [c1, va_up_self, va_up_ne _ _ c2]
        intro q
        obtain ⟨⟨q1, -⟩, -⟩ := g5 p' (by omega)
        have := q1.2
        omega
    · rw [va_up_ne _ _ c1]
      by_cases c2 : p' = kP (tK s)
      · rw [c2, va_up_self]
        intro q
        obtain ⟨⟨q1, -⟩, -⟩ := g5 p (by omega)
        have := q1.2
        omega
      · rw [va_up_ne _ _ c2]
        exact g6 p p' (by omega) (by omega)
  · rcases g7 i hi with q | ⟨c, t, q1, q2, q3⟩
    · exact Or.inl q
    · exact Or.inr ⟨c, t, q1, q2, q3.of old⟩
/-- what a person is changes -/
theorem sc_putP (g : scO B lo h sa fl fr fn pl pr pn fo po tq s cnt) {s' : ST} (e1 : s'.1 = s.1) (e2 : s'.2.1 = s.2.1) {p : Nat} (hp : p < kP (tK s)) (e3 : ∀ q, q ≠ p → tM s' q = tM s q ∧ tR s' q = tR s q ∧ tW s' q = tW s q) :
    ∃ nn, h.2.2 (po p) = some (true, .inr (8, [.ref nn, .int (nI (kCa (tK s) p)), .int (nI (tM s p) - 1), .int (nI (tR s p)), .int (nI (tW s p))])) ∧ scO B lo (pPutE h (po p) (.inr (8, [.ref nn, .int (nI (kCa (tK s) p)), .int (nI (tM s' p) - 1), .int (nI (tR s' p)), .int (nI (tW s' p))]))) sa fl fr fn pl pr pn fo po tq s' cnt := by
  obtain ⟨⟨a1, a2⟩, a3, g1, g2, d, g4, g5, g6, g7⟩ := g
  obtain ⟨⟨q1, q4, q5, q6, q7, q8⟩, nn, q2, q3⟩ := g5 p hp
  refine ⟨nn, q2, ?_⟩
  have pt : ∀ a, a ≠ po p → (pPutE h (po p) (.inr (8, [.ref nn, .int (nI (kCa (tK s) p)), .int (nI (tM s' p) - 1), .int (nI (tR s' p)), .int (nI (tW s' p))]))).2.2 a = h.2.2 a := fun a ha => pE_ne _ ha _
  have at1 := pE_at h (po p) (.inr (8, [.ref nn, .int (nI (kCa (tK s) p)), .int (nI (tM s' p) - 1), .int (nI (tR s' p)), .int (nI (tW s' p))]))
  have n1 : (pPutE h (po p) (.inr (8, [.ref nn, .int (nI (kCa (tK s) p)), .int (nI (tM s' p) - 1), .int (nI (tR s' p)), .int (nI (tW s' p))]))).1 = h.1 := rfl
  generalize pPutE h (po p) (.inr (8, [.ref nn, .int (nI (kCa (tK s) p)), .int (nI (tM s' p) - 1), .int (nI (tR s' p)), .int (nI (tW s' p))])) = h' at pt at1 n1
  have ek : tK s' = tK s := e1
  have en : tNm s' = tNm s := e2
  have old : ∀ a, scQ lo h.1 sa fl fr pl pr po (kP (tK s)) a → scQ lo h'.1 sa fl fr pl pr po (kP (tK s)) a ∧ h'.2.2 a = h.2.2 a := fun a ha => ⟨by rw [n1]; exact ha, pt a (ha.2.2 p hp)⟩
  unfold scO
  rw [ek, en]
  refine ⟨⟨a1, by omega⟩, by rw [pt _ (Ne.symm q4)]; exact a3, g1.of (by omega) (pt _ (Ne.symm q5)) (pt _ (Ne.symm q6)), g2.of (by omega) (pt _ (Ne.symm q7)) (pt _ (Ne.symm q8)), d, fun f hf => ?_, fun r hr => ?_, g6, fun i hi => ?_⟩
  · obtain ⟨z1, n, z2, z3⟩ := g4 f hf
    exact ⟨(old _ z1).1, n, by rw [(old _ z1).2]; exact z2, z3.of old⟩
  · by_cases c1 : r = p
    · rw [c1]
      exact ⟨⟨⟨q1.1, by rw [n1]; exact q1.2⟩, q4, q5, q6, q7, q8⟩, nn, at1, q3.of old⟩
    · obtain ⟨⟨z1, z4⟩, n, z2, z3⟩ := g5 r hr
      obtain ⟨f1, f2, f3⟩ := e3 r c1
      rw [f1, f2, f3]
      exact ⟨⟨⟨z1.1, by rw [n1]; exact z1.2⟩, z4⟩, n, by rw [pt _ (fun q => c1 (g6 r p hr hp q))]; exact z2, z3.of old⟩
  · rcases g7 i hi with q | ⟨c, t, z1, z2, z3⟩
    · exact Or.inl q
    · exact Or.inr ⟨c, t, z1, z2, z3.of old⟩
/-- the school's own cell changes: settings, tests, how many told -/
theorem sc_putS (g : scO B lo h sa fl fr fn pl pr pn fo po tq s cnt) {s' : ST} {cnt' : Nat} {tq' : Nat → Option Nat} (e1 : (tK s').1 = (tK s).1 ∧ (tK s').2.1 = (tK s).2.1 ∧ (tK s').2.2.1 = (tK s).2.2.1) (e2 : s'.2 = s.2)
    (e3 : ∀ i, i < 3 → (kTe (tK s') i = kTe (tK s) i ∧ tq' i = tq i) ∨ ∃ (c : List Int32) (t : Nat), kTe (tK s') i = some c ∧ tq' i = some t ∧ tT (scQ lo h.1 sa fl fr pl pr po (kP (tK s))) B 64 h t c) :
    scO B lo (pPutE h sa (.inr (1, [.int (nI cnt'), .int (nI (kSe (tK s') 0)), .int (nI (kSe (tK s') 1)), .int (nI (kSe (tK s') 2)), .ref fl, .ref pl, va_rf (tq' 0), va_rf (tq' 1), va_rf (tq' 2)]))) sa fl fr fn pl pr pn fo po tq' s' cnt' := by
  obtain ⟨⟨a1, a2⟩, a3, g1, g2, ⟨d1, d2, d3, d4, d5⟩, g4, g5, g6, g7⟩ := g
  have pt : ∀ a, a ≠ sa → (pPutE h sa (.inr (1, [.int (nI cnt'), .int (nI (kSe (tK s') 0)), .int (nI (kSe (tK s') 1)), .int (nI (kSe (tK s') 2)), .ref fl, .ref pl, va_rf (tq' 0), va_rf (tq' 1), va_rf (tq' 2)]))).2.2 a = h.2.2 a := fun a ha => pE_ne _ ha _
  have at1 := pE_at h sa (.inr (1, [.int (nI cnt'), .int (nI (kSe (tK s') 0)), .int (nI (kSe (tK s') 1)), .int (nI (kSe (tK s') 2)), .ref fl, .ref pl, va_rf (tq' 0), va_rf (tq' 1), va_rf (tq' 2)]))
  have n1 : (pPutE h sa (.inr (1, [.int (nI cnt'), .int (nI (kSe (tK s') 0)), .int (nI (kSe (tK s') 1)), .int (nI (kSe (tK s') 2)), .ref fl, .ref pl, va_rf (tq' 0), va_rf (tq' 1), va_rf (tq' 2)]))).1 = h.1 := rfl
  generalize pPutE h sa (.inr (1, [.int (nI cnt'), .int (nI (kSe (tK s') 0)), .int (nI (kSe (tK s') 1)), .int (nI (kSe (tK s') 2)), .ref fl, .ref pl, va_rf (tq' 0), va_rf (tq' 1), va_rf (tq' 2)])) = h' at pt at1 n1
  have eF : kF (tK s') = kF (tK s) := by unfold kF; rw [e1.1]
  have eP : kP (tK s') = kP (tK s) := by unfold kP; rw [e1.1]
  have eW : ∀ f, kWo (tK s') f = kWo (tK s) f := fun f => by unfold kWo; rw [e1.2.1]
  have eC : ∀ f, kCa (tK s') f = kCa (tK s) f := fun f => by unfold kCa; rw [e1.2.2]
  have en : tNm s' = tNm s := by unfold tNm; rw [e2]
  have eM : tM s' = tM s := by unfold tM; rw [e2]
  have eR : tR s' = tR s := by unfold tR; rw [e2]
  have eX : tW s' = tW s := by unfold tW; rw [e2]
  have old : ∀ a, scQ lo h.1 sa fl fr pl pr po (kP (tK s)) a → scQ lo h'.1 sa fl fr pl pr po (kP (tK s)) a ∧ h'.2.2 a = h.2.2 a := fun a ha => ⟨by rw [n1]; exact ha, pt a ha.2.1.1⟩
  unfold scO
  rw [eF, eP, en, eM, eR, eX]
  refine ⟨⟨a1, by omega⟩, at1, g1.of (by omega) (pt _ (Ne.symm d1)) (pt _ (Ne.symm d2)), g2.of (by omega) (pt _ (Ne.symm d3)) (pt _ (Ne.symm d4)), ⟨d1, d2, d3, d4, d5⟩, fun f hf => ?_, fun r hr => ?_, g6, fun i hi => ?_⟩
  · obtain ⟨z1, n, z2, z3⟩ := g4 f hf
    rw [eW]
    exact ⟨(old _ z1).1, n, by rw [(old _ z1).2]; exact z2, z3.of old⟩
  · obtain ⟨⟨z1, z4⟩, n, z2, z3⟩ := g5 r hr
    rw [eC]
    exact ⟨⟨⟨z1.1, by rw [n1]; exact z1.2⟩, z4⟩, n, by rw [pt _ z4.1]; exact z2, z3.of old⟩
  · rcases e3 i hi with ⟨q1, q2⟩ | ⟨c, t, z1, z2, z3⟩
    · rw [q1, q2]
      rcases g7 i hi with q | ⟨c, t, z1, z2, z3⟩
      · exact Or.inl q
      · exact Or.inr ⟨c, t, z1, z2, z3.of old⟩
    · exact Or.inr ⟨c, t, z1, z2, z3.of old⟩
end SZ
