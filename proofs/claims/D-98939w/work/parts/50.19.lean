/-! PART 19: plain: chains as values; what a reader of values does -/
set_option maxRecDepth 100000
def iv (lo hi a : Nat) : Prop := lo ≤ a ∧ a < hi
/-- not one of the chain's own cells -/
def ivx (lo hi p al ar sb ba a : Nat) : Prop := iv lo hi a ∧ a ≠ p ∧ a ≠ al ∧ a ≠ ar ∧ a ≠ sb ∧ a ≠ ba
theorem vT_el {P : Nat → Prop} {B : Nat} : ∀ {k : Nat} {h : PH} {a : Nat} {cs : List Int32}, vT P B k h a cs → P a ∧ isEl (pCls h a) = true
  | 0, h, a, cs, g => g.elim
  | k + 1, h, a, cs, g => by
    obtain ⟨g0, g⟩ := g
    refine ⟨g0, ?_⟩
    rcases g with ⟨b, m, -, g1, -⟩ | ⟨b, j, -, g1, -⟩ | ⟨b, mo, a1, a2, c1, c2, g1, -⟩ | ⟨b, a1, c1, g1, -⟩ | ⟨b, al, sb, m, ads, sg, cs, g1, -⟩
    · rw [pCls_of g1]; decide
    · rw [pCls_of g1]; decide
    · rw [pCls_of g1]; decide
    · rw [pCls_of g1]; decide
    · rw [pCls_of g1]; decide
theorem chW.vt {B lo : Nat} {h : PH} {p al ar ln sb ba lm : Nat} {ads sg : Nat → Nat} {m : Nat} (g : chW lo h p al ar ln sb ba lm ads sg m) (hm : 1 ≤ m) {k : Nat} {cs : Nat → List Int32} (hE : ∀ i, i < m → vT (ivx lo h.1 p al ar sb ba) B k h (ads i) (cs i) ∧ (sg i = 42 ∨ sg i = 43 ∨ sg i = 45 ∨ sg i = 47)) : vT (iv lo h.1) B (k + 1) h p (chC (fun i => opC (sg i)) cs m) := by
  obtain ⟨p1, p2, ⟨⟨a1, a2⟩, ⟨a3, a4, a5⟩, mc, f, f1, f2, f3, f4, f5, f6, f7⟩, ⟨⟨b1, b2⟩, ⟨b3, b4, b5⟩, x, f', q1, q2, q3, q4, q5, q6, q7, q8⟩, -, -⟩ := g
  refine ⟨p1, Or.inr (Or.inr (Or.inr (Or.inr ⟨true, al, sb, m, ads, sg, cs, p2, hm, ⟨⟨a1, a2⟩, true, true, mc, ar, ln, f, ⟨a3, a4⟩, f1, f2, f3, by omega, f7⟩, ⟨⟨b1, b2⟩, true, true, x, ba, lm, f', ⟨b3, b4⟩, q1, q2, q3, by omega, q8⟩, fun i hi => ⟨(hE i hi).1.of (fun a ha => ⟨ha.1, rfl⟩), (hE i hi).2⟩, rfl⟩)))⟩
/-- F reads values as S says; d open, q the kind; x, y: cells and slots that are left over of what the bytes pay -/
def vSp (D : PD) (cap : Nat × Nat) (B N n : Nat) (b : Nat → Nat) (F : Nat → PH → Option ((Nat ⊕ Nat) × PH)) (S : Nat → RS (List Int32)) (d : Nat) (mk5 : Int32) (x y k : Nat) : Prop :=
  ∀ (c : CZ) (h : PH) (j : Nat), rdS D B N h → cAs n b j c → j ≤ n → cI c 7 4 = nI d → cI c 7 5 = mk5 → h.1 + 40 * (n - j) + 40 ≤ cap.1 + x → h.2.1 + 400 * (n - j) + 20000 ≤ cap.2 + y →
    ∃ c' h', cRd c c' ∧ hGr h h' ∧ hW B h' ∧ match S j with
      | .inl g => F (B + 7) (mk B c h) = some (.inr (B + 8), mk B c' h') ∧ cFt c' g ∧ h'.1 + x ≤ h.1 + 40 * (n - j) + 40 ∧ h'.2.1 + y ≤ h.2.1 + 400 * (n - j) + 500
      | .inr (cs, e) => ∃ p, F (B + 7) (mk B c h) = some (.inl p, mk B c' h') ∧ cI c' 7 4 = nI d ∧ cAs n b e c' ∧ vT (iv h.1 h'.1) B k h' p cs ∧ h'.1 + x + 40 * (n - e) ≤ h.1 + 40 * (n - j) ∧ h'.2.1 + y + 400 * (n - e) ≤ h.2.1 + 400 * (n - j)
/-- the chain so far, with its parts -/
def chS (B N lo : Nat) (h : PH) (p al ar ln sb ba lm : Nat) (k m : Nat) (cs : List Int32) : Prop := ∃ (ads sg : Nat → Nat) (cc : Nat → List Int32), chW lo h p al ar ln sb ba lm ads sg m ∧ 1 ≤ m ∧ (∀ i, i < m → vT (ivx lo h.1 p al ar sb ba) B k h (ads i) (cc i) ∧ (sg i = 42 ∨ sg i = 43 ∨ sg i = 45 ∨ sg i = 47)) ∧ cs = chC (fun i => opC (sg i)) cc m
theorem ivx_up {lo hi hi' p al ar ar' sb ba ba' a : Nat} (g : ivx lo hi p al ar sb ba a) (h1 : hi ≤ hi') (e1 : ar' = ar ∨ hi ≤ ar') (e2 : ba' = ba ∨ hi ≤ ba') : ivx lo hi' p al ar' sb ba' a := by
  obtain ⟨⟨g1, g2⟩, g3, g4, g5, g6, g7⟩ := g
  refine ⟨⟨g1, by omega⟩, g3, g4, ?_, g6, ?_⟩
  · rcases e1 with q | q <;> omega
  · rcases e2 with q | q <;> omega
section SL
variable {B N n : Nat} {b : Nat → Nat} {D : PD} {cap : Nat × Nat}
/-- one more part is added to the chain -/
theorem ch_add {c : CZ} {h0 h : PH} {lo p al ar ln sb ba lm k m s x : Nat} {cs c2 : List Int32} (hS : dS D 4 = .int 1) (hw : hW B h) (hlo : B + 841 ≤ lo) (hg : hGr h0 h) (g : chS B N lo h0 p al ar ln sb ba lm k m cs) (hm : m < 800) (hs : s = 42 ∨ s = 43 ∨ s = 45 ∨ s = 47) (hx : vT (iv h0.1 h.1) B k h x c2) (r1 : h.1 + 2 ≤ cap.1) (r2 : h.2.1 + (10 * m + 80) ≤ cap.2) :
    ∃ h' ar' ba' ln' lm', fX14_add D cap p (nI s) x (mk B c h) = some (mk B c h') ∧ chS B N lo h' p al ar' ln' sb ba' lm' k (m + 1) (cs ++ c2 ++ [opC s]) ∧ hW B h' ∧ (h.1 ≤ h'.1 ∧ h'.1 ≤ h.1 + 2) ∧ (h.2.1 ≤ h'.2.1 ∧ h'.2.1 + 14 * (m + 1) + 3 * ln + 4 * lm ≤ h.2.1 + 14 * m + 3 * ln' + 4 * lm' + 15) ∧ ∀ a, a < lo → h'.2.2 a = h.2.2 a := by
  obtain ⟨ads, sg, cc, w, w1, w2, w3⟩ := g
  have w' := w
  obtain ⟨⟨p1, p2⟩, p3, gl, gs, ⟨e1, e2, e3, e4⟩, e5, e6, e7, e8⟩ := w'
  have gl0 := gl
  have gs0 := gs
  obtain ⟨⟨la1, la2⟩, ⟨la3, la4, la5⟩, -⟩ := gl0
  obtain ⟨⟨sa1, sa2⟩, ⟨sa3, sa4, sa5⟩, -⟩ := gs0
  have wh : chW lo h p al ar ln sb ba lm ads sg m := ⟨⟨p1, by have := hg.1; omega⟩, by rw [hg.2.2 p p2]; exact p3, gl.of hg.1 (hg.2.2 al la2) (hg.2.2 ar la4), gs.of hg.1 (hg.2.2 sb sa2) (hg.2.2 ba sa4), ⟨e1, e2, e3, e4⟩, e5, e6, e7, e8⟩
  obtain ⟨⟨x1, x2⟩, x3⟩ := vT_el hx
  have hE0 : ∀ i, i < m → vT (ivx lo h.1 p al ar sb ba) B k h (ads i) (cc i) := fun i hi => (w2 i hi).1.of (fun a ha => ⟨ivx_up ha hg.1 (Or.inl rfl) (Or.inl rfl), hg.2.2 a ha.1.2⟩)
  have cl : ∀ a, B + 841 ≤ a → pCls (mk B c h) a = pCls h a := fun a ha => by unfold pCls; rw [mk_out (Or.inr (Or.inr ha))]
  obtain ⟨h', ar', ba', ln', lm', y1, y2, y3, y4, y5, ⟨y6, y7⟩, y8⟩ := x_chAdd (B := B) (D := D) (cap := cap) (c := c) hS hw hlo wh hm (show s < 128 by omega) ⟨Or.inr (Or.inr (by omega)), x2, by omega, by omega, by omega, by omega, by rw [cl x (by omega)]; exact x3⟩ (fun i hi => by
    obtain ⟨⟨⟨z1, z2⟩, z3, z4, z5, z6, z7⟩, z8⟩ := vT_el (hE0 i hi)
    exact ⟨Or.inr (Or.inr (by omega)), z2, z4, z5, z6, z7, by rw [cl _ (by omega)]; exact z8⟩) r1 r2
  refine ⟨h', ar', ba', ln', lm', y1, ⟨va_up ads m x, va_up sg m s, va_up cc m c2, y2, by omega, fun i hi => ?_, ?_⟩, y3, y4, y5, fun a ha => y8 a (by omega) (by omega) (by omega) (by omega) (by omega)⟩
  · by_cases ci : i = m
    · rw [ci, va_up_self, va_up_self, va_up_self]
      refine ⟨hx.of (fun a ha => ?_), hs⟩
      have ha : h0.1 ≤ a ∧ a < h.1 := ha
      refine ⟨⟨⟨by omega, by omega⟩, by omega, by omega, ?_, by omega, ?_⟩, y8 a ha.2 (by omega) (by omega) (by omega) (by omega)⟩
      · rcases y6 with q | q <;> omega
      · rcases y7 with q | q <;> omega
    · rw [va_up_ne _ _ ci, va_up_ne _ _ ci, va_up_ne _ _ ci]
      refine ⟨(hE0 i (by omega)).of (fun a ha => ⟨ivx_up ha y4.1 y6 y7, y8 a ha.1.2 ha.2.2.1 ha.2.2.2.1 ha.2.2.2.2.1 ha.2.2.2.2.2⟩), (w2 i (by omega)).2⟩
  · obtain ⟨m, rfl⟩ : ∃ m', m = m' + 1 := ⟨m - 1, by omega⟩
    show _ = chC (fun i => opC (va_up sg (m + 1) s i)) (va_up cc (m + 1) c2) (m + 1) ++ va_up cc (m + 1) c2 (m + 1) ++ [opC (va_up sg (m + 1) s (m + 1))]
    rw [va_up_self, va_up_self, w3]
    congr 2
    have key : ∀ (o o' : Nat → Int32) (u u' : Nat → List Int32) (t : Nat), (∀ i, i < t → o i = o' i ∧ u i = u' i) → chC o u t = chC o' u' t := by
      intro o o' u u' t
      induction t with
      | zero => intro _; rfl
      | succ t ih =>
        intro e
        cases t with
        | zero => exact (e 0 (by omega)).2
        | succ t =>
          show chC o u (t + 1) ++ u (t + 1) ++ [o (t + 1)] = chC o' u' (t + 1) ++ u' (t + 1) ++ [o' (t + 1)]
          rw [ih (fun i hi => e i (by omega)), (e (t + 1) (by omega)).1, (e (t + 1) (by omega)).2]
    exact key _ _ _ _ _ (fun i hi => by rw [va_up_ne _ _ (show i ≠ m + 1 by omega), va_up_ne _ _ (show i ≠ m + 1 by omega)]; exact ⟨rfl, rfl⟩)
end SL
